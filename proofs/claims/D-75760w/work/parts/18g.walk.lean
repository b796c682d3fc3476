/-! walks over the abstract heap (printed by gen/gwalk.py) -/
set_option maxRecDepth 100000
/-! SharedTaxis.absent(I)I imp=True fuel=True kap=True rt=I thr=True -/
theorem pfX1_345 : ∀ q ∈ ([(14, 13)] : List (Nat × Nat)), PN RX1 345 .boolean q := List.forall_mem_cons.mpr ⟨⟨RX16, TX16, 15, _, tyX16, rfl, in_X16, by decide, q1148, tyX16_ok, nmX16, rfl, rfl⟩, fun _ h => by cases h⟩
def fX1_absent (N : Nat) (κ : Nat → Nat) (σ : St) (x0 : Nat) (x1 : Int32) : Option ((Int32 ⊕ Nat) × St) := (isC σ x0 0).bind fun u_1 : Unit => (fX1_rideAt σ x0 x1).bind fun (v_2, σ_3) => se v_2 (fun v_4 => (gI σ_3 v_4 [(14, 8)]).bind fun v_6 : Int32 => if v_6 = (1 : Int32) then (gI σ_3 v_4 [(14, 13)]).bind fun v_7 : Int32 => if v_7 = 0 then (isC σ_3 x0 0).bind fun u_8 : Unit => (fX1_beginOperation N κ σ_3 x0).bind fun (v_9, σ_10) => (gR σ_10 x0 [(0, 3)]).bind fun v_11 : Option Nat => (v_11).bind fun a_12 : Nat => (gR σ_10 a_12 [(1, 5)]).bind fun v_13 : Option Nat => (gI σ_10 v_4 [(14, 9)]).bind fun v_14 : Int32 => (v_13).bind fun a_15 : Nat => (isC σ_10 a_15 21).bind fun u_16 : Unit => (fJ2_get σ_10 a_15 v_14).bind fun v_17 : Option Nat => (v_17).bind fun a_19 : Nat => (isC σ_10 a_19 10).bind fun u_20 : Unit => (isC σ_10 a_19 10).bind fun u_21 : Unit => (fX12_remove N σ_10 a_19 x1 (1 : Int32)).bind fun σ_23 : St => (pV σ_23 v_4 [(14, 13)] (.int (1 : Int32))).bind fun σ_24 : St => (gR σ_24 a_19 [(10, 7)]).bind fun v_25 : Option Nat => (v_25).bind fun a_26 : Nat => (isC σ_24 a_26 21).bind fun u_27 : Unit => (fJ2_size σ_24 a_26).bind fun v_28 : Int32 => some (.inl v_28, σ_24) else some (.inl (-2 : Int32), σ_3) else some (.inl (-2 : Int32), σ_3)) (fun q_5 => (isX σ_3 q_5).bind fun uq_5 : Unit => some (.inr q_5, σ_3))
theorem wX1_absent_0 {E : EV} {l : Launch} {p : Program} {e : Env} {s : State} {m : MethodId} {args : Array Value} {below : List Frame} {meth : Method} {c : Code} {R : Room} {res : ((Int32 ⊕ Nat) × St)} (hX : XK E) (hR : 10 ≤ R.frames ∧ 235 ≤ R.locals) (X : MX E p s m args meth c cX1_absent 4 (some .int) RX1 "absent") (XH : MH c []) (hS : l.stackTraces = false) (N : Nat) : ∀ (x0 : Nat) (x1 : Int32) (σ : St) (H : Heap) (locs : List Loc) (cells slots : Nat) (ls : Array Slot), WI E R s σ H locs cells slots → lv_has ls 4 [(0, .ref x0), (1, .int x1)] → fX1_absent N E.2.2.2.1 σ x0 x1 = some res → W p l e R s m args below meth c H locs cells slots (vx_MQ below (QS E R.cells R.slots (sv (fun v => (some (.int v))) res.1) res.2) (XS E R.cells R.slots (sx res.1) res.2) args s R.cells R.slots (fr E)) (F0 m 0 ls []) := by
  intro x0 x1 σ H locs cells slots ls I hl hf
  obtain ⟨⟨hx, hb, hml, hown, hts⟩, -⟩ := id X
  unfold fX1_absent at hf
  refine lv_aload_n hx hb dX1_absent_0 rfl (lv_at hl 0 rfl) ?_
  refine lv_iload_n hx hb dX1_absent_1 rfl (lv_at hl 1 rfl) ?_
  obtain ⟨u_1, eu_1, hf⟩ := ob hf
  obtain ⟨⟨v_2, σ_3⟩, ev_2, hf⟩ := ob hf
  have hgv_2 := hf
  rcases v_2 with v_4 | q_5
  · have hf := se_l hgv_2
    refine cx_ret (r := (some (.ref v_4))) (rs := [.ref v_4]) I (xr_V (vw := (RX1, TX1, 7)) (ci := 0) (σ' := σ_3) (rest := []) (As := [.int x1]) X I eu_1 rfl (mX1_rideAt hX hS ev_2) lvX1_309 hdX1_309 ⟨Nat.le_trans (Nat.le_of_ble_eq_true rfl) hR.1, Nat.le_trans (Nat.le_of_ble_eq_true rfl) hR.2⟩ rfl hl.1 rfl (Nat.le_of_ble_eq_true rfl) dX1_absent_2) rfl (fun H locs cells slots I => ?_)
    refine lv_astore_n (lv' := [(2, .ref v_4), (0, .ref x0), (1, .int x1)]) hx hb dX1_absent_5 rfl hl (by decide) rfl (fun ls hl => ?_)
    refine lv_aload_n hx hb dX1_absent_6 rfl (lv_at hl 0 rfl) ?_
    obtain ⟨v_6, ev_6, hf⟩ := ob hf
    refine g_getN hX X I gfX1_313 (gI_in ev_6) dX1_absent_7 ?_
    refine lv_iconst (v := 1) hx hb dX1_absent_10 (by decide) ?_
    refine lv_icmp_ne (tgt := 21) hx hb dX1_absent_11 (by decide) (fun c_11 => ?_) (fun c_11 => ?_)
    · have hf := im c_11 hf
      refine lv_bipush (v := (-2)) hx hb dX1_absent_21 (by decide) ?_
      cases os hf
      exact x_ret (r_iret X I dX1_absent_23)
    · have hf := ip c_11 hf
      refine lv_aload_n hx hb dX1_absent_14 rfl (lv_at hl 0 rfl) ?_
      obtain ⟨v_7, ev_7, hf⟩ := ob hf
      refine g_getN hX X I gfX1_345 (gI_in ev_7) dX1_absent_15 ?_
      refine lv_if_eq (tgt := 24) hx hb dX1_absent_18 (by decide) (fun c_18 => ?_) (fun c_18 => ?_)
      · have hf := ip c_18 hf
        refine lv_aload_n hx hb dX1_absent_24 rfl (lv_at hl 1 rfl) ?_
        obtain ⟨u_8, eu_8, hf⟩ := ob hf
        obtain ⟨⟨v_9, σ_10⟩, ev_9, hf⟩ := ob hf
        refine cg_V (vw := (RX1, TX1, 7)) (ci := 0) (r := (some (va_rf v_9))) (σ' := σ_10) (rs := [va_rf v_9]) (rest := []) (As := []) X I eu_8 rfl (mX1_beginOperation hX ev_9) lvX1_431 hdX1_431 ⟨Nat.le_trans (Nat.le_of_ble_eq_true rfl) hR.1, Nat.le_trans (Nat.le_of_ble_eq_true rfl) hR.2⟩ rfl hl.1 rfl (Nat.le_of_ble_eq_true rfl) rfl dX1_absent_25 (fun H locs cells slots I => ?_)
        refine lv_pop hx hb dX1_absent_28 (rf_cat _) ?_
        refine lv_aload_n hx hb dX1_absent_29 rfl (lv_at hl 1 rfl) ?_
        obtain ⟨v_11, ev_11, hf⟩ := ob hf
        refine g_get X I gfX1_87 (gR_in ev_11) dX1_absent_30 ?_
        obtain ⟨a_12, ea_12, hga_12⟩ := ob hf
        have hla_12 := hl
        have Ia_12 := I
        subst ea_12
        have hf := hga_12
        have hl := hla_12
        have I := Ia_12
        obtain ⟨v_13, ev_13, hf⟩ := ob hf
        refine g_getN hX X I gfX1_133 (gR_in ev_13) dX1_absent_33 ?_
        refine lv_aload_n hx hb dX1_absent_36 rfl (lv_at hl 0 rfl) ?_
        obtain ⟨v_14, ev_14, hf⟩ := ob hf
        refine g_getN hX X I gfX1_334 (gI_in ev_14) dX1_absent_37 ?_
        obtain ⟨a_15, ea_15, hga_15⟩ := ob hf
        have hla_15 := hl
        have Ia_15 := I
        subst ea_15
        have hf := hga_15
        have hl := hla_15
        have I := Ia_15
        obtain ⟨u_16, eu_16, hf⟩ := ob hf
        obtain ⟨v_17, ev_17, hf⟩ := ob hf
        refine cg_F (vw := (RJ2, TJ2, 3)) (ci := 21) (r := (some (va_rf v_17))) (σ' := σ_10) (rs := [va_rf v_17]) (rest := []) (As := [.int v_14]) hX X I eu_16 rfl (mJ2_get hX ev_17) lvX1_140_J2 hdX1_140_J2 ⟨Nat.le_trans (Nat.le_of_ble_eq_true rfl) hR.1, Nat.le_trans (Nat.le_of_ble_eq_true rfl) hR.2⟩ rfl hl.1 rfl (Nat.le_of_ble_eq_true rfl) rfl dX1_absent_40 (fun H locs cells slots I => ?_)
        obtain ⟨a_19, ea_19, hga_19⟩ := ob hf
        have hla_19 := hl
        have Ia_19 := I
        subst ea_19
        have hf := hga_19
        have hl := hla_19
        have I := Ia_19
        obtain ⟨u_20, eu_20, hf⟩ := ob hf
        refine g_cast (vw := (RX12, TX12, 15)) X I rfl q805 eu_20 dX1_absent_45 ?_
        refine lv_astore_n (lv' := [(3, .ref a_19), (2, .ref v_4), (0, .ref x0), (1, .int x1)]) hx hb dX1_absent_48 rfl hl (by decide) rfl (fun ls hl => ?_)
        refine lv_aload_n hx hb dX1_absent_49 rfl (lv_at hl 0 rfl) ?_
        refine lv_iload_n hx hb dX1_absent_50 rfl (lv_at hl 3 rfl) ?_
        refine lv_iconst (v := 1) hx hb dX1_absent_51 (by decide) ?_
        obtain ⟨u_21, eu_21, hf⟩ := ob hf
        obtain ⟨σ_23, ev_22, hf⟩ := ob hf
        refine cg_V (vw := (RX12, TX12, 15)) (ci := 10) (r := none) (σ' := σ_23) (rs := []) (rest := []) (As := [.int x1, .int (1 : Int32)]) X I eu_21 rfl (mX12_remove hX ev_22) lvX1_448 hdX1_448 ⟨Nat.le_trans (Nat.le_of_ble_eq_true rfl) hR.1, Nat.le_trans (Nat.le_of_ble_eq_true rfl) hR.2⟩ rfl hl.1 rfl (Nat.le_of_ble_eq_true rfl) rfl dX1_absent_52 (fun H locs cells slots I => ?_)
        refine lv_aload_n hx hb dX1_absent_55 rfl (lv_at hl 1 rfl) ?_
        refine lv_iconst (v := 1) hx hb dX1_absent_56 (by decide) ?_
        obtain ⟨σ_24, eσ_24, hf⟩ := ob hf
        refine g_putN hX X I pfX1_345 rfl rfl eσ_24 dX1_absent_57 (fun H locs I => ?_)
        refine lv_aload_n hx hb dX1_absent_60 rfl (lv_at hl 0 rfl) ?_
        obtain ⟨v_25, ev_25, hf⟩ := ob hf
        refine g_getN hX X I gfX1_203 (gR_in ev_25) dX1_absent_61 ?_
        obtain ⟨a_26, ea_26, hga_26⟩ := ob hf
        have hla_26 := hl
        have Ia_26 := I
        subst ea_26
        have hf := hga_26
        have hl := hla_26
        have I := Ia_26
        obtain ⟨u_27, eu_27, hf⟩ := ob hf
        obtain ⟨v_28, ev_28, hf⟩ := ob hf
        refine cg_F (vw := (RJ2, TJ2, 3)) (ci := 21) (r := (some (.int v_28))) (σ' := σ_24) (rs := [.int v_28]) (rest := []) (As := []) hX X I eu_27 rfl (mJ2_size hX ev_28) lvX1_137_J2 hdX1_137_J2 ⟨Nat.le_trans (Nat.le_of_ble_eq_true rfl) hR.1, Nat.le_trans (Nat.le_of_ble_eq_true rfl) hR.2⟩ rfl hl.1 rfl (Nat.le_of_ble_eq_true rfl) rfl dX1_absent_64 (fun H locs cells slots I => ?_)
        cases os hf
        exact x_ret (r_iret X I dX1_absent_69)
      · have hf := im c_18 hf
        refine lv_bipush (v := (-2)) hx hb dX1_absent_21 (by decide) ?_
        cases os hf
        exact x_ret (r_iret X I dX1_absent_23)
  · have hf := se_r hgv_2
    obtain ⟨uq_5, eq_5, hf⟩ := ob hf
    cases os hf
    refine cx_thr I (xr_V (vw := (RX1, TX1, 7)) (ci := 0) (σ' := σ_3) (rest := []) (As := [.int x1]) X I eu_1 rfl (mX1_rideAt hX hS ev_2) lvX1_309 hdX1_309 ⟨Nat.le_trans (Nat.le_of_ble_eq_true rfl) hR.1, Nat.le_trans (Nat.le_of_ble_eq_true rfl) hR.2⟩ rfl hl.1 rfl (Nat.le_of_ble_eq_true rfl) dX1_absent_2) (fun H locs cells slots I => ?_)
    exact x_out X XH rfl I eq_5
theorem mX1_absent {E : EV} {l : Launch} {N : Nat} {σ : St} {x0 : Nat} {x1 : Int32} {res : ((Int32 ⊕ Nat) × St)} (hX : XK E) (hS : l.stackTraces = false) (hf : fX1_absent N E.2.2.2.1 σ x0 x1 = some res) : CX E l yX1_absent (ws_ yX1_absent cX1_absent 4 (some .int)) 10 235 [.ref x0, .int x1] σ (sv (fun v => (some (.int v))) res.1) (sx res.1) res.2 := by
  refine CX.of hX.1 (by decide) rfl rfl (Nat.le_of_ble_eq_true rfl) ?_
  intro p e s m below meth c X XH I ls hl
  exact wX1_absent_0 hX ⟨Nat.le_refl _, Nat.le_refl _⟩ X XH hS N _ _ _ _ _ _ _ _ I hl hf
/-! SharedTaxisLaw.absent(LSharedTaxis;I[J)I imp=True fuel=True kap=True rt=I thr=False -/
theorem lvX0_75 : GoodIn lw_all (wsV RX0 75 RX1 yX1_absent (ws_ yX1_absent cX1_absent 4 (some .int))) := lw_V q2232 q2233 q2234 q113 q2235
theorem hdX0_75 : yX1_absent.cls = RX1 ∧ yX1_absent.cls ≠ "java/lang/invoke/MethodHandle" ∧ yX1_absent.cls ≠ "java/lang/invoke/VarHandle" ∧ (parseMethodDescriptor yX1_absent.desc).map (fun d => d.parameters.length) = some 1 := by decide +kernel
def fX0_absent (N : Nat) (κ : Nat → Nat) (σ : St) (x0 : Nat) (x1 : Int32) (x2 : Nat) : Option (Int32 × St) := (isC σ x0 0).bind fun u_1 : Unit => (fX1_absent N κ σ x0 x1).bind fun (v_2, σ_3) => se v_2 (fun v_4 => (sJ σ_3 x2 (0 : Int32) (v_4.toInt64)).bind fun σ_6 : St => some ((0 : Int32), σ_6)) (fun q_5 => (clsX σ_3 q_5).bind fun c_7 : Nat => if c_7 = 34 then some ((1 : Int32), σ_3) else none)
theorem wX0_absent_0 {E : EV} {l : Launch} {p : Program} {e : Env} {s : State} {m : MethodId} {args : Array Value} {below : List Frame} {meth : Method} {c : Code} {R : Room} {res : (Int32 × St)} (hX : XK E) (hR : 11 ≤ R.frames ∧ 258 ≤ R.locals) (X : MX E p s m args meth c cX0_absent 4 (some .int) RX0 "absent") (XH : MH c [(0, 9, 12, 18)]) (hS : l.stackTraces = false) (N : Nat) : ∀ (x0 : Nat) (x1 : Int32) (x2 : Nat) (σ : St) (H : Heap) (locs : List Loc) (cells slots : Nat) (ls : Array Slot), WI E R s σ H locs cells slots → lv_has ls 4 [(0, .ref x0), (1, .int x1), (2, .ref x2)] → fX0_absent N E.2.2.2.1 σ x0 x1 x2 = some res → W p l e R s m args below meth c H locs cells slots (vx_MQ below (QS E R.cells R.slots (some (some (.int res.1))) res.2) (XS E R.cells R.slots none res.2) args s R.cells R.slots (fr E)) (F0 m 0 ls []) := by
  intro x0 x1 x2 σ H locs cells slots ls I hl hf
  obtain ⟨⟨hx, hb, hml, hown, hts⟩, -⟩ := id X
  unfold fX0_absent at hf
  refine lv_aload_n hx hb dX0_absent_0 rfl (lv_at hl 2 rfl) ?_
  refine lv_iconst (v := 0) hx hb dX0_absent_1 (by decide) ?_
  refine lv_aload_n hx hb dX0_absent_2 rfl (lv_at hl 0 rfl) ?_
  refine lv_iload_n hx hb dX0_absent_3 rfl (lv_at hl 1 rfl) ?_
  obtain ⟨u_1, eu_1, hf⟩ := ob hf
  obtain ⟨⟨v_2, σ_3⟩, ev_2, hf⟩ := ob hf
  have hgv_2 := hf
  rcases v_2 with v_4 | q_5
  · have hf := se_l hgv_2
    refine cx_ret (r := (some (.int v_4))) (rs := [.int v_4, .int (0 : Int32), .ref x2]) I (xr_V (vw := (RX1, TX1, 7)) (ci := 0) (σ' := σ_3) (rest := [.int (0 : Int32), .ref x2]) (As := [.int x1]) X I eu_1 rfl (mX1_absent hX hS ev_2) lvX0_75 hdX0_75 ⟨Nat.le_trans (Nat.le_of_ble_eq_true rfl) hR.1, Nat.le_trans (Nat.le_of_ble_eq_true rfl) hR.2⟩ rfl hl.1 rfl (Nat.le_of_ble_eq_true rfl) dX0_absent_4) rfl (fun H locs cells slots I => ?_)
    refine lv_i2l hx hb dX0_absent_7 rfl ?_
    obtain ⟨σ_6, eσ_6, hf⟩ := ob hf
    refine g_last X I eσ_6 dX0_absent_8 (fun H locs I => ?_)
    refine lv_goto (tgt := 15) hx hb dX0_absent_9 (by decide) ?_
    refine lv_iconst (v := 0) hx hb dX0_absent_15 (by decide) ?_
    cases os hf
    exact x_ret (r_iret X I dX0_absent_16)
  · have hf := se_r hgv_2
    obtain ⟨c_7, ec_7, hf⟩ := ob hf
    refine cx_thr I (xr_V (vw := (RX1, TX1, 7)) (ci := 0) (σ' := σ_3) (rest := [.int (0 : Int32), .ref x2]) (As := [.int x1]) X I eu_1 rfl (mX1_absent hX hS ev_2) lvX0_75 hdX0_75 ⟨Nat.le_trans (Nat.le_of_ble_eq_true rfl) hR.1, Nat.le_trans (Nat.le_of_ble_eq_true rfl) hR.2⟩ rfl hl.1 rfl (Nat.le_of_ble_eq_true rfl) dX0_absent_4) (fun H locs cells slots I => ?_)
    by_cases cc_7_E22 : c_7 = 34
    · have hf := ip cc_7_E22 hf
      refine x_catch (vw := (RJ22, TJ22, 0)) hX X XH I (cc_7_E22 ▸ ec_7) rfl ((tableOf [(0, 9, 12, 18)]).take 0) _ _ rfl (fun z hz => nomatch hz) rfl (by decide) q1558 q417 ?_
      refine lv_astore_n (lv' := [(3, .ref q_5), (0, .ref x0), (1, .int x1), (2, .ref x2)]) hx hb dX0_absent_12 rfl hl (by decide) rfl (fun ls hl => ?_)
      refine lv_iconst (v := 1) hx hb dX0_absent_13 (by decide) ?_
      cases os hf
      exact x_ret (r_iret X I dX0_absent_14)
    · have hf := im cc_7_E22 hf
      exact nomatch hf
theorem mX0_absent {E : EV} {l : Launch} {N : Nat} {σ : St} {x0 : Nat} {x1 : Int32} {x2 : Nat} {res : (Int32 × St)} (hX : XK E) (hS : l.stackTraces = false) (hf : fX0_absent N E.2.2.2.1 σ x0 x1 x2 = some res) : CX E l yX0_absent (wsW_ yX0_absent cX0_absent 4 (some .int) [(0, 9, 12, 18)]) 11 258 [.ref x0, .int x1, .ref x2] σ (some (some (.int res.1))) none res.2 := by
  refine CX.ofH hX.1 (by decide) rfl rfl (Nat.le_of_ble_eq_true rfl) ?_
  intro p e s m below meth c X XH I ls hl
  exact wX0_absent_0 hX ⟨Nat.le_refl _, Nat.le_refl _⟩ X XH hS N _ _ _ _ _ _ _ _ _ I hl hf
/-! SharedTaxis$Passing.<init>(LSharedTaxis$State;I)V imp=True fuel=False kap=False rt=None thr=False -/
theorem pfX18_9 : ∀ q ∈ ([(16, 0)] : List (Nat × Nat)), PI RX18 9 (.object "SharedTaxis$State") q := List.forall_mem_cons.mpr ⟨⟨RX18, TX18, 3, tyX18, rfl, in_X18, by decide, q2250, rfl, tyX18_ok, nmX18, rfl, rfl⟩, fun _ h => by cases h⟩
theorem gfX18_15 : ∀ q ∈ ([(1, 4)] : List (Nat × Nat)), GN RX18 15 q := List.forall_mem_cons.mpr ⟨⟨RX2, TX2, 7, _, rfl, in_X2, by decide, q248⟩, fun _ h => by cases h⟩
theorem pfX18_21 : ∀ q ∈ ([(16, 1)] : List (Nat × Nat)), PI RX18 21 .int q := List.forall_mem_cons.mpr ⟨⟨RX18, TX18, 3, tyX18, rfl, in_X18, by decide, q2251, rfl, tyX18_ok, nmX18, rfl, rfl⟩, fun _ h => by cases h⟩
def fX18_init (σ : St) (x0 : Nat) (x1 : Nat) (x2 : Int32) : Option St := (pV σ x0 [(16, 0)] (.ref x1)).bind fun σ_1 : St => (gI σ_1 x1 [(1, 4)]).bind fun v_2 : Int32 => (pV σ_1 x0 [(16, 1)] (.int (v_2 + x2))).bind fun σ_3 : St => some σ_3
theorem wX18_init_0 {E : EV} {l : Launch} {p : Program} {e : Env} {s : State} {m : MethodId} {args : Array Value} {below : List Frame} {meth : Method} {c : Code} {R : Room} {res : St} (hX : XK E) (hR : 1 ≤ R.frames ∧ 20 ≤ R.locals) (X : MX E p s m args meth c cX18_init 3 none RX18 "<init>") : ∀ (x0 : Nat) (x1 : Nat) (x2 : Int32) (σ : St) (H : Heap) (locs : List Loc) (cells slots : Nat) (ls : Array Slot), WI E R s σ H locs cells slots → lv_has ls 3 [(0, .ref x0), (1, .ref x1), (2, .int x2)] → fX18_init σ x0 x1 x2 = some res → W p l e R s m args below meth c H locs cells slots (MQ below (Qd E R.cells R.slots none res) args s R.cells R.slots (fr E)) (F0 m 0 ls []) := by
  intro x0 x1 x2 σ H locs cells slots ls I hl hf
  obtain ⟨⟨hx, hb, hml, hown, hts⟩, -⟩ := id X
  unfold fX18_init at hf
  refine lv_aload_n hx hb dX18_init_0 rfl (lv_at hl 0 rfl) ?_
  refine g_objInit X ⟨Nat.le_trans (Nat.le_of_ble_eq_true rfl) hR.1, Nat.le_trans (Nat.le_of_ble_eq_true rfl) hR.2⟩ q2249 hl.1 (Nat.le_of_ble_eq_true rfl) dX18_init_1 ?_
  refine lv_aload_n hx hb dX18_init_4 rfl (lv_at hl 0 rfl) ?_
  refine lv_aload_n hx hb dX18_init_5 rfl (lv_at hl 1 rfl) ?_
  obtain ⟨σ_1, eσ_1, hf⟩ := ob hf
  refine g_putI X I pfX18_9 rfl rfl eσ_1 dX18_init_6 (fun H locs I => ?_)
  refine lv_aload_n hx hb dX18_init_9 rfl (lv_at hl 0 rfl) ?_
  refine lv_aload_n hx hb dX18_init_10 rfl (lv_at hl 1 rfl) ?_
  obtain ⟨v_2, ev_2, hf⟩ := ob hf
  refine g_getN hX X I gfX18_15 (gI_in ev_2) dX18_init_11 ?_
  refine lv_iload_n hx hb dX18_init_14 rfl (lv_at hl 2 rfl) ?_
  refine lv_iadd hx hb dX18_init_15 ?_
  obtain ⟨σ_3, eσ_3, hf⟩ := ob hf
  refine g_putI X I pfX18_21 rfl rfl eσ_3 dX18_init_16 (fun H locs I => ?_)
  cases os hf
  exact r_vret X I dX18_init_19
theorem mX18_init {E : EV} {l : Launch} {σ : St} {x0 : Nat} {x1 : Nat} {x2 : Int32} {res : St} (hX : XK E) (hf : fX18_init σ x0 x1 x2 = some res) : CM E l yX18_init (ws_ yX18_init cX18_init 3 none) 1 20 [.ref x0, .ref x1, .int x2] σ none res := by
  refine CM.of hX.1 (by decide) rfl rfl (Nat.le_of_ble_eq_true rfl) ?_
  intro p e s m below meth c X I ls hl
  exact wX18_init_0 hX ⟨Nat.le_refl _, Nat.le_refl _⟩ X _ _ _ _ _ _ _ _ _ I hl hf
/-! SharedTaxis$Passing.charge(LSharedTaxis$Taxi;LSharedTaxis$Ride;I)V imp=True fuel=False kap=False rt=None thr=False -/
theorem gfX18_24 : ∀ q ∈ ([(10, 9)] : List (Nat × Nat)), GN RX18 24 q := List.forall_mem_cons.mpr ⟨⟨RX12, TX12, 15, _, rfl, in_X12, by decide, q940⟩, fun _ h => by cases h⟩
theorem pfX18_24 : ∀ q ∈ ([(10, 9)] : List (Nat × Nat)), PN RX18 24 .int q := List.forall_mem_cons.mpr ⟨⟨RX12, TX12, 15, _, tyX12, rfl, in_X12, by decide, q940, tyX12_ok, nmX12, rfl, rfl⟩, fun _ h => by cases h⟩
theorem gfX18_29 : ∀ q ∈ ([(14, 12)] : List (Nat × Nat)), GN RX18 29 q := List.forall_mem_cons.mpr ⟨⟨RX16, TX16, 15, _, rfl, in_X16, by decide, q1142⟩, fun _ h => by cases h⟩
theorem pfX18_29 : ∀ q ∈ ([(14, 12)] : List (Nat × Nat)), PN RX18 29 .int q := List.forall_mem_cons.mpr ⟨⟨RX16, TX16, 15, _, tyX16, rfl, in_X16, by decide, q1142, tyX16_ok, nmX16, rfl, rfl⟩, fun _ h => by cases h⟩
def fX18_charge (σ : St) (x0 : Nat) (x1 : Nat) (x2 : Nat) (x3 : Int32) : Option St := (gI σ x1 [(10, 9)]).bind fun v_1 : Int32 => (pV σ x1 [(10, 9)] (.int (v_1 + x3))).bind fun σ_2 : St => (gI σ_2 x2 [(14, 12)]).bind fun v_3 : Int32 => (pV σ_2 x2 [(14, 12)] (.int (v_3 + x3))).bind fun σ_4 : St => some σ_4
theorem wX18_charge_0 {E : EV} {l : Launch} {p : Program} {e : Env} {s : State} {m : MethodId} {args : Array Value} {below : List Frame} {meth : Method} {c : Code} {R : Room} {res : St} (hX : XK E) (hR : 0 ≤ R.frames ∧ 0 ≤ R.locals) (X : MX E p s m args meth c cX18_charge 4 none RX18 "charge") : ∀ (x0 : Nat) (x1 : Nat) (x2 : Nat) (x3 : Int32) (σ : St) (H : Heap) (locs : List Loc) (cells slots : Nat) (ls : Array Slot), WI E R s σ H locs cells slots → lv_has ls 4 [(0, .ref x0), (1, .ref x1), (2, .ref x2), (3, .int x3)] → fX18_charge σ x0 x1 x2 x3 = some res → W p l e R s m args below meth c H locs cells slots (MQ below (Qd E R.cells R.slots none res) args s R.cells R.slots (fr E)) (F0 m 0 ls []) := by
  intro x0 x1 x2 x3 σ H locs cells slots ls I hl hf
  obtain ⟨⟨hx, hb, hml, hown, hts⟩, -⟩ := id X
  unfold fX18_charge at hf
  refine lv_aload_n hx hb dX18_charge_0 rfl (lv_at hl 1 rfl) ?_
  refine lv_dup hx hb dX18_charge_1 rfl ?_
  obtain ⟨v_1, ev_1, hf⟩ := ob hf
  refine g_getN hX X I gfX18_24 (gI_in ev_1) dX18_charge_2 ?_
  refine lv_iload_n hx hb dX18_charge_5 rfl (lv_at hl 3 rfl) ?_
  refine lv_iadd hx hb dX18_charge_6 ?_
  obtain ⟨σ_2, eσ_2, hf⟩ := ob hf
  refine g_putN hX X I pfX18_24 rfl rfl eσ_2 dX18_charge_7 (fun H locs I => ?_)
  refine lv_aload_n hx hb dX18_charge_10 rfl (lv_at hl 2 rfl) ?_
  refine lv_dup hx hb dX18_charge_11 rfl ?_
  obtain ⟨v_3, ev_3, hf⟩ := ob hf
  refine g_getN hX X I gfX18_29 (gI_in ev_3) dX18_charge_12 ?_
  refine lv_iload_n hx hb dX18_charge_15 rfl (lv_at hl 3 rfl) ?_
  refine lv_iadd hx hb dX18_charge_16 ?_
  obtain ⟨σ_4, eσ_4, hf⟩ := ob hf
  refine g_putN hX X I pfX18_29 rfl rfl eσ_4 dX18_charge_17 (fun H locs I => ?_)
  cases os hf
  exact r_vret X I dX18_charge_20
theorem mX18_charge {E : EV} {l : Launch} {σ : St} {x0 : Nat} {x1 : Nat} {x2 : Nat} {x3 : Int32} {res : St} (hX : XK E) (hf : fX18_charge σ x0 x1 x2 x3 = some res) : CM E l yX18_charge (ws_ yX18_charge cX18_charge 4 none) 0 0 [.ref x0, .ref x1, .ref x2, .int x3] σ none res := by
  refine CM.of hX.1 (by decide) rfl rfl (Nat.le_of_ble_eq_true rfl) ?_
  intro p e s m below meth c X I ls hl
  exact wX18_charge_0 hX ⟨Nat.le_refl _, Nat.le_refl _⟩ X _ _ _ _ _ _ _ _ _ _ I hl hf
/-! SharedTaxis$Passing.pay(LSharedTaxis$Taxi;I)V imp=True fuel=True kap=False rt=None thr=False -/
theorem gfX18_9 : ∀ q ∈ ([(16, 0)] : List (Nat × Nat)), GF RX18 9 q := List.forall_mem_cons.mpr ⟨⟨RX18, TX18, 3, _, rfl, in_X18, by decide, q2250, Or.inl rfl⟩, fun _ h => by cases h⟩
theorem gfX18_60 : ∀ q ∈ ([(1, 6)] : List (Nat × Nat)), GN RX18 60 q := List.forall_mem_cons.mpr ⟨⟨RX2, TX2, 7, _, rfl, in_X2, by decide, q261⟩, fun _ h => by cases h⟩
theorem gfX18_34 : ∀ q ∈ ([(10, 8)] : List (Nat × Nat)), GN RX18 34 q := List.forall_mem_cons.mpr ⟨⟨RX12, TX12, 15, _, rfl, in_X12, by decide, q937⟩, fun _ h => by cases h⟩
theorem lvX18_63_J2 : GoodIn lw_all (va_wsF RX18 63 RJ2 ⟨"java/util/List", "get", "(I)Ljava/lang/Object;"⟩ yJ2_get (ws_ yJ2_get cJ2_get 2 (some (.object "java/lang/Object")))) ∧ (RJ2, ⟨"java/util/List", "get", "(I)Ljava/lang/Object;"⟩, yJ2_get) ∈ FWL := ⟨lw_good (List.forall_mem_cons.mpr ⟨q2267, List.forall_mem_cons.mpr ⟨q489, List.forall_mem_cons.mpr ⟨q491, List.forall_mem_cons.mpr ⟨q118, fun w h => (lw_meth q493 w h).1⟩⟩⟩⟩), List.mem_of_getElem? (i := 10) rfl⟩
theorem hdX18_63_J2 : (⟨"java/util/List", "get", "(I)Ljava/lang/Object;"⟩ : MethodName).cls ≠ "java/lang/invoke/MethodHandle" ∧ (⟨"java/util/List", "get", "(I)Ljava/lang/Object;"⟩ : MethodName).cls ≠ "java/lang/invoke/VarHandle" ∧ (parseMethodDescriptor (⟨"java/util/List", "get", "(I)Ljava/lang/Object;"⟩ : MethodName).desc).map (fun d => d.parameters.length) = some 1 := by decide +kernel
theorem lvX18_69 : GoodIn lw_all (wsV RX18 69 RJ18 yJ18_intValue (ws_ yJ18_intValue cJ18_intValue 1 (some .int))) := lw_V q2289 q1610 q1611 q138 q1612
theorem hdX18_69 : yJ18_intValue.cls = RJ18 ∧ yJ18_intValue.cls ≠ "java/lang/invoke/MethodHandle" ∧ yJ18_intValue.cls ≠ "java/lang/invoke/VarHandle" ∧ (parseMethodDescriptor yJ18_intValue.desc).map (fun d => d.parameters.length) = some 0 := by decide +kernel
theorem lvX18_72 : GoodIn lw_all (wsV RX18 72 RX2 yX2_part (ws_ yX2_part cX2_part 4 (some .int))) := lw_V q2291 q1995 q1996 q114 q1997
theorem hdX18_72 : yX2_part.cls = RX2 ∧ yX2_part.cls ≠ "java/lang/invoke/MethodHandle" ∧ yX2_part.cls ≠ "java/lang/invoke/VarHandle" ∧ (parseMethodDescriptor yX2_part.desc).map (fun d => d.parameters.length) = some 3 := by decide +kernel
theorem lvX18_76 : GoodIn lw_all (wsV RX18 76 RX18 yX18_charge (ws_ yX18_charge cX18_charge 4 none)) := lw_V q2292 q2294 qs35 q157 q2295
theorem hdX18_76 : yX18_charge.cls = RX18 ∧ yX18_charge.cls ≠ "java/lang/invoke/MethodHandle" ∧ yX18_charge.cls ≠ "java/lang/invoke/VarHandle" ∧ (parseMethodDescriptor yX18_charge.desc).map (fun d => d.parameters.length) = some 3 := by decide +kernel
theorem pfX18_50 : ∀ q ∈ ([(10, 13)] : List (Nat × Nat)), PN RX18 50 .int q := List.forall_mem_cons.mpr ⟨⟨RX12, TX12, 15, _, tyX12, rfl, in_X12, by decide, q951, tyX12_ok, nmX12, rfl, rfl⟩, fun _ h => by cases h⟩
theorem lvX18_53 : GoodIn lw_all (wsV RX18 53 RX2 yX2_amount (ws_ yX2_amount cX2_amount 5 (some .int))) := lw_V q2287 q1990 q1991 q114 q1992
theorem hdX18_53 : yX2_amount.cls = RX2 ∧ yX2_amount.cls ≠ "java/lang/invoke/MethodHandle" ∧ yX2_amount.cls ≠ "java/lang/invoke/VarHandle" ∧ (parseMethodDescriptor yX2_amount.desc).map (fun d => d.parameters.length) = some 2 := by decide +kernel
theorem gfX18_57 : ∀ q ∈ ([(10, 14)] : List (Nat × Nat)), GN RX18 57 q := List.forall_mem_cons.mpr ⟨⟨RX12, TX12, 15, _, rfl, in_X12, by decide, q954⟩, fun _ h => by cases h⟩
theorem pfX18_57 : ∀ q ∈ ([(10, 14)] : List (Nat × Nat)), PN RX18 57 .int q := List.forall_mem_cons.mpr ⟨⟨RX12, TX12, 15, _, tyX12, rfl, in_X12, by decide, q954, tyX12_ok, nmX12, rfl, rfl⟩, fun _ h => by cases h⟩
theorem lvX18_38_J2 : GoodIn lw_all (va_wsF RX18 38 RJ2 ⟨"java/util/List", "size", "()I"⟩ yJ2_size (ws_ yJ2_size cJ2_size 1 (some .int))) ∧ (RJ2, ⟨"java/util/List", "size", "()I"⟩, yJ2_size) ∈ FWL := ⟨lw_good (List.forall_mem_cons.mpr ⟨q2265, List.forall_mem_cons.mpr ⟨q381, List.forall_mem_cons.mpr ⟨q383, List.forall_mem_cons.mpr ⟨q118, fun w h => (lw_meth q385 w h).1⟩⟩⟩⟩), List.mem_of_getElem? (i := 16) rfl⟩
theorem hdX18_38_J2 : (⟨"java/util/List", "size", "()I"⟩ : MethodName).cls ≠ "java/lang/invoke/MethodHandle" ∧ (⟨"java/util/List", "size", "()I"⟩ : MethodName).cls ≠ "java/lang/invoke/VarHandle" ∧ (parseMethodDescriptor (⟨"java/util/List", "size", "()I"⟩ : MethodName).desc).map (fun d => d.parameters.length) = some 0 := by decide +kernel
theorem gfX18_44 : ∀ q ∈ ([(10, 11)] : List (Nat × Nat)), GN RX18 44 q := List.forall_mem_cons.mpr ⟨⟨RX12, TX12, 15, _, rfl, in_X12, by decide, q946⟩, fun _ h => by cases h⟩
theorem pfX18_44 : ∀ q ∈ ([(10, 11)] : List (Nat × Nat)), PN RX18 44 .int q := List.forall_mem_cons.mpr ⟨⟨RX12, TX12, 15, _, tyX12, rfl, in_X12, by decide, q946, tyX12_ok, nmX12, rfl, rfl⟩, fun _ h => by cases h⟩
theorem gfX18_47 : ∀ q ∈ ([(10, 12)] : List (Nat × Nat)), GN RX18 47 q := List.forall_mem_cons.mpr ⟨⟨RX12, TX12, 15, _, rfl, in_X12, by decide, q948⟩, fun _ h => by cases h⟩
theorem pfX18_47 : ∀ q ∈ ([(10, 12)] : List (Nat × Nat)), PN RX18 47 .int q := List.forall_mem_cons.mpr ⟨⟨RX12, TX12, 15, _, tyX12, rfl, in_X12, by decide, q948, tyX12_ok, nmX12, rfl, rfl⟩, fun _ h => by cases h⟩
theorem gfX18_50 : ∀ q ∈ ([(10, 13)] : List (Nat × Nat)), GN RX18 50 q := List.forall_mem_cons.mpr ⟨⟨RX12, TX12, 15, _, rfl, in_X12, by decide, q951⟩, fun _ h => by cases h⟩
def fX18_pay_79 (N : Nat) : Nat → Nat → Nat → Int32 → Int32 → Int32 → St → Option St
  | 0, _, _, _, _, _, _ => none
  | n + 1, x0, x1, x3, x4, x5, σ => if x3 ≤ x5 then some σ else (gR σ x0 [(16, 0)]).bind fun v_1 : Option Nat => (v_1).bind fun a_2 : Nat => (gR σ a_2 [(1, 6)]).bind fun v_3 : Option Nat => (gR σ x1 [(10, 8)]).bind fun v_4 : Option Nat => (v_4).bind fun a_5 : Nat => (isC σ a_5 21).bind fun u_6 : Unit => (fJ2_get σ a_5 x5).bind fun v_7 : Option Nat => (v_7).bind fun a_9 : Nat => (isC σ a_9 27).bind fun u_10 : Unit => (isC σ a_9 27).bind fun u_11 : Unit => (fJ18_intValue σ a_9).bind fun v_12 : Int32 => (v_3).bind fun a_14 : Nat => (isC σ a_14 21).bind fun u_15 : Unit => (fJ2_get σ a_14 v_12).bind fun v_16 : Option Nat => (v_16).bind fun a_18 : Nat => (isC σ a_18 14).bind fun u_19 : Unit => (gR σ x0 [(16, 0)]).bind fun v_20 : Option Nat => (v_20).bind fun a_21 : Nat => (isC σ a_21 1).bind fun u_22 : Unit => (fX2_part σ a_21 x4 x3 x5).bind fun v_23 : Int32 => (isC σ x0 16).bind fun u_25 : Unit => (fX18_charge σ x0 x1 a_18 v_23).bind fun σ_27 : St => lt (x5 + 1) fun x5_28 : Int32 => fX18_pay_79 N n x0 x1 x3 x4 x5_28 σ_27
def fX18_pay_50 (N : Nat) (x0 : Nat) (x1 : Nat) (x2 : Int32) (x3 : Int32) (y0 : Nat) (y1 : Int32) (y2 : Int32) (σ : St) : Option St := (pV σ y0 [(10, 13)] (.int (y1 + y2))).bind fun σ_29 : St => (gR σ_29 x0 [(16, 0)]).bind fun v_30 : Option Nat => (v_30).bind fun a_31 : Nat => (isC σ_29 a_31 1).bind fun u_32 : Unit => (fX2_amount σ_29 a_31 x2 x3).bind fun v_33 : Int32 => (gI σ_29 x1 [(10, 14)]).bind fun v_35 : Int32 => (pV σ_29 x1 [(10, 14)] (.int (v_35 + v_33))).bind fun σ_36 : St => fX18_pay_79 N N x0 x1 x3 v_33 (0 : Int32) σ_36
def fX18_pay (N : Nat) (σ : St) (x0 : Nat) (x1 : Nat) (x2 : Int32) : Option St := (gR σ x1 [(10, 8)]).bind fun v_37 : Option Nat => (v_37).bind fun a_38 : Nat => (isC σ a_38 21).bind fun u_39 : Unit => (fJ2_size σ a_38).bind fun v_40 : Int32 => (gI σ x1 [(10, 11)]).bind fun v_42 : Int32 => (pV σ x1 [(10, 11)] (.int (v_42 + x2))).bind fun σ_43 : St => if v_40 = 0 then some σ_43 else (gI σ_43 x1 [(10, 12)]).bind fun v_44 : Int32 => (pV σ_43 x1 [(10, 12)] (.int (v_44 + x2))).bind fun σ_45 : St => (gI σ_45 x1 [(10, 13)]).bind fun v_46 : Int32 => if v_40 ≤ (1 : Int32) then fX18_pay_50 N x0 x1 x2 v_40 x1 v_46 (0 : Int32) σ_45 else fX18_pay_50 N x0 x1 x2 v_40 x1 v_46 x2 σ_45
theorem wX18_pay_79 {E : EV} {l : Launch} {p : Program} {e : Env} {s : State} {m : MethodId} {args : Array Value} {below : List Frame} {meth : Method} {c : Code} {R : Room} {res : St} (hX : XK E) (hR : 3 ≤ R.frames ∧ 64 ≤ R.locals) (X : MX E p s m args meth c cX18_pay 6 none RX18 "pay") (N : Nat) : ∀ (n : Nat) (x0 : Nat) (x1 : Nat) (x3 : Int32) (x4 : Int32) (x5 : Int32) (σ : St) (H : Heap) (locs : List Loc) (cells slots : Nat) (ls : Array Slot), WI E R s σ H locs cells slots → lv_has ls 6 [(0, .ref x0), (1, .ref x1), (3, .int x3), (4, .int x4), (5, .int x5)] → fX18_pay_79 N n x0 x1 x3 x4 x5 σ = some res → W p l e R s m args below meth c H locs cells slots (MQ below (Qd E R.cells R.slots none res) args s R.cells R.slots (fr E)) (F0 m 79 ls []) := by
  intro n
  induction n with
  | zero => intro x0 x1 x3 x4 x5 σ H locs cells slots ls I hl hf; exact nomatch (show none = some res from hf)
  | succ n ih =>
    intro x0 x1 x3 x4 x5 σ H locs cells slots ls I hl hf
    obtain ⟨⟨hx, hb, hml, hown, hts⟩, -⟩ := id X
    rw [fX18_pay_79.eq_2] at hf
    refine lv_iload hx hb dX18_pay_79 (lv_at hl 4 rfl) ?_
    refine lv_iload_n hx hb dX18_pay_81 rfl (lv_at hl 2 rfl) ?_
    refine lv_icmp_ge (tgt := 140) hx hb dX18_pay_82 (by decide) (fun c_82 => ?_) (fun c_82 => ?_)
    · have hf := ip c_82 hf
      cases os hf
      exact r_vret X I dX18_pay_140
    · have hf := im c_82 hf
      refine lv_aload_n hx hb dX18_pay_85 rfl (lv_at hl 0 rfl) ?_
      refine lv_aload_n hx hb dX18_pay_86 rfl (lv_at hl 1 rfl) ?_
      refine lv_aload_n hx hb dX18_pay_87 rfl (lv_at hl 0 rfl) ?_
      obtain ⟨v_1, ev_1, hf⟩ := ob hf
      refine g_get X I gfX18_9 (gR_in ev_1) dX18_pay_88 ?_
      obtain ⟨a_2, ea_2, hga_2⟩ := ob hf
      have hla_2 := hl
      have Ia_2 := I
      subst ea_2
      have hf := hga_2
      have hl := hla_2
      have I := Ia_2
      obtain ⟨v_3, ev_3, hf⟩ := ob hf
      refine g_getN hX X I gfX18_60 (gR_in ev_3) dX18_pay_91 ?_
      refine lv_aload_n hx hb dX18_pay_94 rfl (lv_at hl 1 rfl) ?_
      obtain ⟨v_4, ev_4, hf⟩ := ob hf
      refine g_getN hX X I gfX18_34 (gR_in ev_4) dX18_pay_95 ?_
      refine lv_iload hx hb dX18_pay_98 (lv_at hl 4 rfl) ?_
      obtain ⟨a_5, ea_5, hga_5⟩ := ob hf
      have hla_5 := hl
      have Ia_5 := I
      subst ea_5
      have hf := hga_5
      have hl := hla_5
      have I := Ia_5
      obtain ⟨u_6, eu_6, hf⟩ := ob hf
      obtain ⟨v_7, ev_7, hf⟩ := ob hf
      refine cg_F (vw := (RJ2, TJ2, 3)) (ci := 21) (r := (some (va_rf v_7))) (σ' := σ) (rs := [va_rf v_7, va_rf v_3, .ref x1, .ref x0]) (rest := [va_rf v_3, .ref x1, .ref x0]) (As := [.int x5]) hX X I eu_6 rfl (mJ2_get hX ev_7) lvX18_63_J2 hdX18_63_J2 ⟨Nat.le_trans (Nat.le_of_ble_eq_true rfl) hR.1, Nat.le_trans (Nat.le_of_ble_eq_true rfl) hR.2⟩ rfl hl.1 rfl (by rcases v_3 with _ | _ <;> exact (Nat.le_of_ble_eq_true rfl)) rfl dX18_pay_100 (fun H locs cells slots I => ?_)
      obtain ⟨a_9, ea_9, hga_9⟩ := ob hf
      have hla_9 := hl
      have Ia_9 := I
      subst ea_9
      have hf := hga_9
      have hl := hla_9
      have I := Ia_9
      obtain ⟨u_10, eu_10, hf⟩ := ob hf
      refine g_cast (vw := (RJ18, TJ18, 1)) X I rfl q2288 eu_10 dX18_pay_105 ?_
      obtain ⟨u_11, eu_11, hf⟩ := ob hf
      obtain ⟨v_12, ev_12, hf⟩ := ob hf
      refine cg_V (vw := (RJ18, TJ18, 1)) (ci := 27) (r := (some (.int v_12))) (σ' := σ) (rs := [.int v_12, va_rf v_3, .ref x1, .ref x0]) (rest := [va_rf v_3, .ref x1, .ref x0]) (As := []) X I eu_11 rfl (mJ18_intValue hX ev_12) lvX18_69 hdX18_69 ⟨Nat.le_trans (Nat.le_of_ble_eq_true rfl) hR.1, Nat.le_trans (Nat.le_of_ble_eq_true rfl) hR.2⟩ rfl hl.1 rfl (by rcases v_3 with _ | _ <;> exact (Nat.le_of_ble_eq_true rfl)) rfl dX18_pay_108 (fun H locs cells slots I => ?_)
      obtain ⟨a_14, ea_14, hga_14⟩ := ob hf
      have hla_14 := hl
      have Ia_14 := I
      subst ea_14
      have hf := hga_14
      have hl := hla_14
      have I := Ia_14
      obtain ⟨u_15, eu_15, hf⟩ := ob hf
      obtain ⟨v_16, ev_16, hf⟩ := ob hf
      refine cg_F (vw := (RJ2, TJ2, 3)) (ci := 21) (r := (some (va_rf v_16))) (σ' := σ) (rs := [va_rf v_16, .ref x1, .ref x0]) (rest := [.ref x1, .ref x0]) (As := [.int v_12]) hX X I eu_15 rfl (mJ2_get hX ev_16) lvX18_63_J2 hdX18_63_J2 ⟨Nat.le_trans (Nat.le_of_ble_eq_true rfl) hR.1, Nat.le_trans (Nat.le_of_ble_eq_true rfl) hR.2⟩ rfl hl.1 rfl (Nat.le_of_ble_eq_true rfl) rfl dX18_pay_111 (fun H locs cells slots I => ?_)
      obtain ⟨a_18, ea_18, hga_18⟩ := ob hf
      have hla_18 := hl
      have Ia_18 := I
      subst ea_18
      have hf := hga_18
      have hl := hla_18
      have I := Ia_18
      obtain ⟨u_19, eu_19, hf⟩ := ob hf
      refine g_cast (vw := (RX16, TX16, 15)) X I rfl q2290 eu_19 dX18_pay_116 ?_
      refine lv_aload_n hx hb dX18_pay_119 rfl (lv_at hl 0 rfl) ?_
      obtain ⟨v_20, ev_20, hf⟩ := ob hf
      refine g_get X I gfX18_9 (gR_in ev_20) dX18_pay_120 ?_
      refine lv_iload hx hb dX18_pay_123 (lv_at hl 3 rfl) ?_
      refine lv_iload_n hx hb dX18_pay_125 rfl (lv_at hl 2 rfl) ?_
      refine lv_iload hx hb dX18_pay_126 (lv_at hl 4 rfl) ?_
      obtain ⟨a_21, ea_21, hga_21⟩ := ob hf
      have hla_21 := hl
      have Ia_21 := I
      subst ea_21
      have hf := hga_21
      have hl := hla_21
      have I := Ia_21
      obtain ⟨u_22, eu_22, hf⟩ := ob hf
      obtain ⟨v_23, ev_23, hf⟩ := ob hf
      refine cg_V (vw := (RX2, TX2, 7)) (ci := 1) (r := (some (.int v_23))) (σ' := σ) (rs := [.int v_23, .ref a_18, .ref x1, .ref x0]) (rest := [.ref a_18, .ref x1, .ref x0]) (As := [.int x4, .int x3, .int x5]) X I eu_22 rfl (mX2_part hX ev_23) lvX18_72 hdX18_72 ⟨Nat.le_trans (Nat.le_of_ble_eq_true rfl) hR.1, Nat.le_trans (Nat.le_of_ble_eq_true rfl) hR.2⟩ rfl hl.1 rfl (Nat.le_of_ble_eq_true rfl) rfl dX18_pay_128 (fun H locs cells slots I => ?_)
      obtain ⟨u_25, eu_25, hf⟩ := ob hf
      obtain ⟨σ_27, ev_26, hf⟩ := ob hf
      refine cg_V (vw := (RX18, TX18, 3)) (ci := 16) (r := none) (σ' := σ_27) (rs := []) (rest := []) (As := [.ref x1, .ref a_18, .int v_23]) X I eu_25 rfl (mX18_charge hX ev_26) lvX18_76 hdX18_76 ⟨Nat.le_trans (Nat.le_of_ble_eq_true rfl) hR.1, Nat.le_trans (Nat.le_of_ble_eq_true rfl) hR.2⟩ rfl hl.1 rfl (Nat.le_of_ble_eq_true rfl) rfl dX18_pay_131 (fun H locs cells slots I => ?_)
      obtain ⟨x5_28, ex5_28, hf⟩ := ol hf
      refine lv_iinc (v := x5_28) (lv' := [(5, .int x5_28), (0, .ref x0), (1, .ref x1), (3, .int x3), (4, .int x4)]) hx hb dX18_pay_134 hl (k := 4) rfl ex5_28 (by decide) rfl (fun ls hl => ?_)
      refine lv_goto (tgt := 79) hx hb dX18_pay_137 (by decide) ?_
      exact ih x0 x1 x3 x4 x5_28 σ_27 _ _ _ _ _ I (lv_sub hl [1, 2, 3, 4, 0] rfl) hf
theorem wX18_pay_50 {E : EV} {l : Launch} {p : Program} {e : Env} {s : State} {m : MethodId} {args : Array Value} {below : List Frame} {meth : Method} {c : Code} {R : Room} {res : St} (hX : XK E) (hR : 3 ≤ R.frames ∧ 64 ≤ R.locals) (X : MX E p s m args meth c cX18_pay 6 none RX18 "pay") (N : Nat) : ∀ (x0 : Nat) (x1 : Nat) (x2 : Int32) (x3 : Int32) (y0 : Nat) (y1 : Int32) (y2 : Int32) (σ : St) (H : Heap) (locs : List Loc) (cells slots : Nat) (ls : Array Slot), WI E R s σ H locs cells slots → lv_has ls 6 [(0, .ref x0), (1, .ref x1), (2, .int x2), (3, .int x3)] → fX18_pay_50 N x0 x1 x2 x3 y0 y1 y2 σ = some res → W p l e R s m args below meth c H locs cells slots (MQ below (Qd E R.cells R.slots none res) args s R.cells R.slots (fr E)) (F0 m 50 ls [.int y2, .int y1, .ref y0]) := by
  intro x0 x1 x2 x3 y0 y1 y2 σ H locs cells slots ls I hl hf
  obtain ⟨⟨hx, hb, hml, hown, hts⟩, -⟩ := id X
  unfold fX18_pay_50 at hf
  refine lv_iadd hx hb dX18_pay_50 ?_
  obtain ⟨σ_29, eσ_29, hf⟩ := ob hf
  refine g_putN hX X I pfX18_50 rfl rfl eσ_29 dX18_pay_51 (fun H locs I => ?_)
  refine lv_aload_n hx hb dX18_pay_54 rfl (lv_at hl 0 rfl) ?_
  obtain ⟨v_30, ev_30, hf⟩ := ob hf
  refine g_get X I gfX18_9 (gR_in ev_30) dX18_pay_55 ?_
  refine lv_iload_n hx hb dX18_pay_58 rfl (lv_at hl 2 rfl) ?_
  refine lv_iload_n hx hb dX18_pay_59 rfl (lv_at hl 3 rfl) ?_
  obtain ⟨a_31, ea_31, hga_31⟩ := ob hf
  have hla_31 := hl
  have Ia_31 := I
  subst ea_31
  have hf := hga_31
  have hl := hla_31
  have I := Ia_31
  obtain ⟨u_32, eu_32, hf⟩ := ob hf
  obtain ⟨v_33, ev_33, hf⟩ := ob hf
  refine cg_V (vw := (RX2, TX2, 7)) (ci := 1) (r := (some (.int v_33))) (σ' := σ_29) (rs := [.int v_33]) (rest := []) (As := [.int x2, .int x3]) X I eu_32 rfl (mX2_amount hX ev_33) lvX18_53 hdX18_53 ⟨Nat.le_trans (Nat.le_of_ble_eq_true rfl) hR.1, Nat.le_trans (Nat.le_of_ble_eq_true rfl) hR.2⟩ rfl hl.1 rfl (Nat.le_of_ble_eq_true rfl) rfl dX18_pay_60 (fun H locs cells slots I => ?_)
  refine lv_istore (lv' := [(4, .int v_33), (0, .ref x0), (1, .ref x1), (2, .int x2), (3, .int x3)]) hx hb dX18_pay_63 hl (by decide) rfl (fun ls hl => ?_)
  refine lv_aload_n hx hb dX18_pay_65 rfl (lv_at hl 2 rfl) ?_
  refine lv_dup hx hb dX18_pay_66 rfl ?_
  obtain ⟨v_35, ev_35, hf⟩ := ob hf
  refine g_getN hX X I gfX18_57 (gI_in ev_35) dX18_pay_67 ?_
  refine lv_iload hx hb dX18_pay_70 (lv_at hl 0 rfl) ?_
  refine lv_iadd hx hb dX18_pay_72 ?_
  obtain ⟨σ_36, eσ_36, hf⟩ := ob hf
  refine g_putN hX X I pfX18_57 rfl rfl eσ_36 dX18_pay_73 (fun H locs I => ?_)
  refine lv_iconst (v := 0) hx hb dX18_pay_76 (by decide) ?_
  refine lv_istore (lv' := [(5, .int (0 : Int32)), (4, .int v_33), (0, .ref x0), (1, .ref x1), (2, .int x2), (3, .int x3)]) hx hb dX18_pay_77 hl (by decide) rfl (fun ls hl => ?_)
  exact wX18_pay_79 hX hR X N N x0 x1 x3 v_33 (0 : Int32) σ_36 _ _ _ _ _ I (lv_sub hl [2, 3, 5, 1, 0] rfl) hf
theorem wX18_pay_0 {E : EV} {l : Launch} {p : Program} {e : Env} {s : State} {m : MethodId} {args : Array Value} {below : List Frame} {meth : Method} {c : Code} {R : Room} {res : St} (hX : XK E) (hR : 3 ≤ R.frames ∧ 64 ≤ R.locals) (X : MX E p s m args meth c cX18_pay 6 none RX18 "pay") (N : Nat) : ∀ (x0 : Nat) (x1 : Nat) (x2 : Int32) (σ : St) (H : Heap) (locs : List Loc) (cells slots : Nat) (ls : Array Slot), WI E R s σ H locs cells slots → lv_has ls 6 [(0, .ref x0), (1, .ref x1), (2, .int x2)] → fX18_pay N σ x0 x1 x2 = some res → W p l e R s m args below meth c H locs cells slots (MQ below (Qd E R.cells R.slots none res) args s R.cells R.slots (fr E)) (F0 m 0 ls []) := by
  intro x0 x1 x2 σ H locs cells slots ls I hl hf
  obtain ⟨⟨hx, hb, hml, hown, hts⟩, -⟩ := id X
  unfold fX18_pay at hf
  refine lv_aload_n hx hb dX18_pay_0 rfl (lv_at hl 1 rfl) ?_
  obtain ⟨v_37, ev_37, hf⟩ := ob hf
  refine g_getN hX X I gfX18_34 (gR_in ev_37) dX18_pay_1 ?_
  obtain ⟨a_38, ea_38, hga_38⟩ := ob hf
  have hla_38 := hl
  have Ia_38 := I
  subst ea_38
  have hf := hga_38
  have hl := hla_38
  have I := Ia_38
  obtain ⟨u_39, eu_39, hf⟩ := ob hf
  obtain ⟨v_40, ev_40, hf⟩ := ob hf
  refine cg_F (vw := (RJ2, TJ2, 3)) (ci := 21) (r := (some (.int v_40))) (σ' := σ) (rs := [.int v_40]) (rest := []) (As := []) hX X I eu_39 rfl (mJ2_size hX ev_40) lvX18_38_J2 hdX18_38_J2 ⟨Nat.le_trans (Nat.le_of_ble_eq_true rfl) hR.1, Nat.le_trans (Nat.le_of_ble_eq_true rfl) hR.2⟩ rfl hl.1 rfl (Nat.le_of_ble_eq_true rfl) rfl dX18_pay_4 (fun H locs cells slots I => ?_)
  refine lv_istore_n (lv' := [(3, .int v_40), (0, .ref x0), (1, .ref x1), (2, .int x2)]) hx hb dX18_pay_9 rfl hl (by decide) rfl (fun ls hl => ?_)
  refine lv_aload_n hx hb dX18_pay_10 rfl (lv_at hl 2 rfl) ?_
  refine lv_dup hx hb dX18_pay_11 rfl ?_
  obtain ⟨v_42, ev_42, hf⟩ := ob hf
  refine g_getN hX X I gfX18_44 (gI_in ev_42) dX18_pay_12 ?_
  refine lv_iload_n hx hb dX18_pay_15 rfl (lv_at hl 3 rfl) ?_
  refine lv_iadd hx hb dX18_pay_16 ?_
  obtain ⟨σ_43, eσ_43, hf⟩ := ob hf
  refine g_putN hX X I pfX18_44 rfl rfl eσ_43 dX18_pay_17 (fun H locs I => ?_)
  refine lv_iload_n hx hb dX18_pay_20 rfl (lv_at hl 0 rfl) ?_
  refine lv_if_ne (tgt := 25) hx hb dX18_pay_21 (by decide) (fun c_21 => ?_) (fun c_21 => ?_)
  · have hf := im c_21 hf
    refine lv_aload_n hx hb dX18_pay_25 rfl (lv_at hl 2 rfl) ?_
    refine lv_dup hx hb dX18_pay_26 rfl ?_
    obtain ⟨v_44, ev_44, hf⟩ := ob hf
    refine g_getN hX X I gfX18_47 (gI_in ev_44) dX18_pay_27 ?_
    refine lv_iload_n hx hb dX18_pay_30 rfl (lv_at hl 3 rfl) ?_
    refine lv_iadd hx hb dX18_pay_31 ?_
    obtain ⟨σ_45, eσ_45, hf⟩ := ob hf
    refine g_putN hX X I pfX18_47 rfl rfl eσ_45 dX18_pay_32 (fun H locs I => ?_)
    refine lv_aload_n hx hb dX18_pay_35 rfl (lv_at hl 2 rfl) ?_
    refine lv_dup hx hb dX18_pay_36 rfl ?_
    obtain ⟨v_46, ev_46, hf⟩ := ob hf
    refine g_getN hX X I gfX18_50 (gI_in ev_46) dX18_pay_37 ?_
    refine lv_iload_n hx hb dX18_pay_40 rfl (lv_at hl 0 rfl) ?_
    refine lv_iconst (v := 1) hx hb dX18_pay_41 (by decide) ?_
    refine lv_icmp_le (tgt := 49) hx hb dX18_pay_42 (by decide) (fun c_42 => ?_) (fun c_42 => ?_)
    · have hf := ip c_42 hf
      refine lv_iconst (v := 0) hx hb dX18_pay_49 (by decide) ?_
      exact wX18_pay_50 hX hR X N x0 x1 x2 v_40 x1 v_46 (0 : Int32) σ_45 _ _ _ _ _ I (lv_sub hl [1, 2, 3, 0] rfl) hf
    · have hf := im c_42 hf
      refine lv_iload_n hx hb dX18_pay_45 rfl (lv_at hl 3 rfl) ?_
      refine lv_goto (tgt := 50) hx hb dX18_pay_46 (by decide) ?_
      exact wX18_pay_50 hX hR X N x0 x1 x2 v_40 x1 v_46 x2 σ_45 _ _ _ _ _ I (lv_sub hl [1, 2, 3, 0] rfl) hf
  · have hf := ip c_21 hf
    cases os hf
    exact r_vret X I dX18_pay_24
theorem mX18_pay {E : EV} {l : Launch} {N : Nat} {σ : St} {x0 : Nat} {x1 : Nat} {x2 : Int32} {res : St} (hX : XK E) (hf : fX18_pay N σ x0 x1 x2 = some res) : CM E l yX18_pay (ws_ yX18_pay cX18_pay 6 none) 3 64 [.ref x0, .ref x1, .int x2] σ none res := by
  refine CM.of hX.1 (by decide) rfl rfl (Nat.le_of_ble_eq_true rfl) ?_
  intro p e s m below meth c X I ls hl
  exact wX18_pay_0 hX ⟨Nat.le_refl _, Nat.le_refl _⟩ X N _ _ _ _ _ _ _ _ _ I hl hf
/-! SharedTaxis$Passing.pick(LSharedTaxis$Taxi;LSharedTaxis$Ride;I)V imp=True fuel=False kap=True rt=None thr=False -/
theorem gfX18_83 : ∀ q ∈ ([(14, 13)] : List (Nat × Nat)), GN RX18 83 q := List.forall_mem_cons.mpr ⟨⟨RX16, TX16, 15, _, rfl, in_X16, by decide, q1146⟩, fun _ h => by cases h⟩
theorem gfX18_96 : ∀ q ∈ ([(14, 0)] : List (Nat × Nat)), GN RX18 96 q := List.forall_mem_cons.mpr ⟨⟨RX16, TX16, 15, _, rfl, in_X16, by decide, q1106⟩, fun _ h => by cases h⟩
theorem lvX18_99 : GoodIn lw_all (va_wsS RX18 99 yJ18_valueOf (ws_ yJ18_valueOf cJ18_valueOf 1 (some (.object "java/lang/Integer")))) := lw_S q2300 q1921 q138 q1922
theorem hdX18_99 : yJ18_valueOf.cls ≠ "java/lang/invoke/MethodHandle" ∧ yJ18_valueOf.cls ≠ "java/lang/invoke/VarHandle" ∧ (parseMethodDescriptor yJ18_valueOf.desc).map (fun d => d.parameters.length) = some 1 := by decide +kernel
theorem lvX18_103_J2 : GoodIn lw_all (va_wsF RX18 103 RJ2 ⟨"java/util/List", "add", "(Ljava/lang/Object;)Z"⟩ yJ2_add (ws_ yJ2_add cJ2_add 2 (some .boolean))) ∧ (RJ2, ⟨"java/util/List", "add", "(Ljava/lang/Object;)Z"⟩, yJ2_add) ∈ FWL := ⟨lw_good (List.forall_mem_cons.mpr ⟨q2302, List.forall_mem_cons.mpr ⟨q1078, List.forall_mem_cons.mpr ⟨q1080, List.forall_mem_cons.mpr ⟨q118, fun w h => (lw_meth q1082 w h).1⟩⟩⟩⟩), List.mem_of_getElem? (i := 7) rfl⟩
theorem hdX18_103_J2 : (⟨"java/util/List", "add", "(Ljava/lang/Object;)Z"⟩ : MethodName).cls ≠ "java/lang/invoke/MethodHandle" ∧ (⟨"java/util/List", "add", "(Ljava/lang/Object;)Z"⟩ : MethodName).cls ≠ "java/lang/invoke/VarHandle" ∧ (parseMethodDescriptor (⟨"java/util/List", "add", "(Ljava/lang/Object;)Z"⟩ : MethodName).desc).map (fun d => d.parameters.length) = some 1 := by decide +kernel
theorem pfX18_87 : ∀ q ∈ ([(14, 8)] : List (Nat × Nat)), PN RX18 87 .int q := List.forall_mem_cons.mpr ⟨⟨RX16, TX16, 15, _, tyX16, rfl, in_X16, by decide, q1130, tyX16_ok, nmX16, rfl, rfl⟩, fun _ h => by cases h⟩
theorem gfX18_93 : ∀ q ∈ ([(1, 2)] : List (Nat × Nat)), GN RX18 93 q := List.forall_mem_cons.mpr ⟨⟨RX2, TX2, 7, _, rfl, in_X2, by decide, q242⟩, fun _ h => by cases h⟩
theorem gfX18_89 : ∀ q ∈ ([(1, 1)] : List (Nat × Nat)), GN RX18 89 q := List.forall_mem_cons.mpr ⟨⟨RX2, TX2, 7, _, rfl, in_X2, by decide, q236⟩, fun _ h => by cases h⟩
theorem pfX18_80 : ∀ q ∈ ([(14, 10)] : List (Nat × Nat)), PN RX18 80 .int q := List.forall_mem_cons.mpr ⟨⟨RX16, TX16, 15, _, tyX16, rfl, in_X16, by decide, q1137, tyX16_ok, nmX16, rfl, rfl⟩, fun _ h => by cases h⟩
def fX18_pick_50 (κ : Nat → Nat) (x1 : Nat) (x2 : Nat) (y0 : Nat) (y1 : Nat) (y2 : Nat) (y3 : Int32) (σ : St) : Option St := (isC σ y0 16).bind fun u_1 : Unit => (fX18_charge σ y0 y1 y2 y3).bind fun σ_3 : St => (gI σ_3 x2 [(14, 13)]).bind fun v_4 : Int32 => if v_4 = 0 then (gR σ_3 x1 [(10, 8)]).bind fun v_5 : Option Nat => (gI σ_3 x2 [(14, 0)]).bind fun v_6 : Int32 => (fJ18_valueOf κ σ_3 v_6).bind fun (v_7, σ_8) => (v_7).bind fun a_9 : Nat => (v_5).bind fun a_10 : Nat => (isC σ_8 a_10 21).bind fun u_11 : Unit => (fJ2_add κ σ_8 a_10 a_9).bind fun (v_12, σ_13) => some σ_13 else some σ_3
def fX18_pick_18 (κ : Nat → Nat) (x0 : Nat) (x1 : Nat) (x2 : Nat) (y0 : Nat) (y1 : Int32) (σ : St) : Option St := (pV σ y0 [(14, 8)] (.int y1)).bind fun σ_14 : St => (gI σ_14 x2 [(14, 13)]).bind fun v_15 : Int32 => if v_15 = 0 then (gR σ_14 x0 [(16, 0)]).bind fun v_16 : Option Nat => (v_16).bind fun a_17 : Nat => (gI σ_14 a_17 [(1, 2)]).bind fun v_18 : Int32 => fX18_pick_50 κ x1 x2 x0 x1 x2 v_18 σ_14 else (gR σ_14 x0 [(16, 0)]).bind fun v_19 : Option Nat => (v_19).bind fun a_20 : Nat => (gR σ_14 a_20 [(1, 1)]).bind fun v_21 : Option Nat => (v_21).bind fun a_22 : Nat => (aI σ_14 a_22 0 (4 : Int32)).bind fun v_23 : Int32 => fX18_pick_50 κ x1 x2 x0 x1 x2 v_23 σ_14
def fX18_pick (κ : Nat → Nat) (σ : St) (x0 : Nat) (x1 : Nat) (x2 : Nat) (x3 : Int32) : Option St := (pV σ x2 [(14, 10)] (.int x3)).bind fun σ_24 : St => (gI σ_24 x2 [(14, 13)]).bind fun v_25 : Int32 => if v_25 = 0 then fX18_pick_18 κ x0 x1 x2 x2 (2 : Int32) σ_24 else fX18_pick_18 κ x0 x1 x2 x2 (5 : Int32) σ_24
theorem wX18_pick_50 {E : EV} {l : Launch} {p : Program} {e : Env} {s : State} {m : MethodId} {args : Array Value} {below : List Frame} {meth : Method} {c : Code} {R : Room} {res : St} (hX : XK E) (hR : 7 ≤ R.frames ∧ 171 ≤ R.locals) (X : MX E p s m args meth c cX18_pick 4 none RX18 "pick") : ∀ (x1 : Nat) (x2 : Nat) (y0 : Nat) (y1 : Nat) (y2 : Nat) (y3 : Int32) (σ : St) (H : Heap) (locs : List Loc) (cells slots : Nat) (ls : Array Slot), WI E R s σ H locs cells slots → lv_has ls 4 [(1, .ref x1), (2, .ref x2)] → fX18_pick_50 E.2.2.2.1 x1 x2 y0 y1 y2 y3 σ = some res → W p l e R s m args below meth c H locs cells slots (MQ below (Qd E R.cells R.slots none res) args s R.cells R.slots (fr E)) (F0 m 50 ls [.int y3, .ref y2, .ref y1, .ref y0]) := by
  intro x1 x2 y0 y1 y2 y3 σ H locs cells slots ls I hl hf
  obtain ⟨⟨hx, hb, hml, hown, hts⟩, -⟩ := id X
  unfold fX18_pick_50 at hf
  obtain ⟨u_1, eu_1, hf⟩ := ob hf
  obtain ⟨σ_3, ev_2, hf⟩ := ob hf
  refine cg_V (vw := (RX18, TX18, 3)) (ci := 16) (r := none) (σ' := σ_3) (rs := []) (rest := []) (As := [.ref y1, .ref y2, .int y3]) X I eu_1 rfl (mX18_charge hX ev_2) lvX18_76 hdX18_76 ⟨Nat.le_trans (Nat.le_of_ble_eq_true rfl) hR.1, Nat.le_trans (Nat.le_of_ble_eq_true rfl) hR.2⟩ rfl hl.1 rfl (Nat.le_of_ble_eq_true rfl) rfl dX18_pick_50 (fun H locs cells slots I => ?_)
  refine lv_aload_n hx hb dX18_pick_53 rfl (lv_at hl 1 rfl) ?_
  obtain ⟨v_4, ev_4, hf⟩ := ob hf
  refine g_getN hX X I gfX18_83 (gI_in ev_4) dX18_pick_54 ?_
  refine lv_if_ne (tgt := 77) hx hb dX18_pick_57 (by decide) (fun c_57 => ?_) (fun c_57 => ?_)
  · have hf := im c_57 hf
    cases os hf
    exact r_vret X I dX18_pick_77
  · have hf := ip c_57 hf
    refine lv_aload_n hx hb dX18_pick_60 rfl (lv_at hl 0 rfl) ?_
    obtain ⟨v_5, ev_5, hf⟩ := ob hf
    refine g_getN hX X I gfX18_34 (gR_in ev_5) dX18_pick_61 ?_
    refine lv_aload_n hx hb dX18_pick_64 rfl (lv_at hl 1 rfl) ?_
    obtain ⟨v_6, ev_6, hf⟩ := ob hf
    refine g_getN hX X I gfX18_96 (gI_in ev_6) dX18_pick_65 ?_
    obtain ⟨⟨v_7, σ_8⟩, ev_7, hf⟩ := ob hf
    refine cg_S (r := (some (va_rf v_7))) (σ' := σ_8) (rs := [va_rf v_7, va_rf v_5]) (rest := [va_rf v_5]) (As := [.int v_6]) X I (mJ18_valueOf hX ev_7) lvX18_99 hdX18_99 ⟨Nat.le_trans (Nat.le_of_ble_eq_true rfl) hR.1, Nat.le_trans (Nat.le_of_ble_eq_true rfl) hR.2⟩ rfl hl.1 rfl (by rcases v_5 with _ | _ <;> exact (Nat.le_of_ble_eq_true rfl)) rfl dX18_pick_68 (fun H locs cells slots I => ?_)
    obtain ⟨a_9, ea_9, hga_9⟩ := ob hf
    have hla_9 := hl
    have Ia_9 := I
    subst ea_9
    have hf := hga_9
    have hl := hla_9
    have I := Ia_9
    obtain ⟨a_10, ea_10, hga_10⟩ := ob hf
    have hla_10 := hl
    have Ia_10 := I
    subst ea_10
    have hf := hga_10
    have hl := hla_10
    have I := Ia_10
    obtain ⟨u_11, eu_11, hf⟩ := ob hf
    obtain ⟨⟨v_12, σ_13⟩, ev_12, hf⟩ := ob hf
    refine cg_F (vw := (RJ2, TJ2, 3)) (ci := 21) (r := (some (.int v_12))) (σ' := σ_13) (rs := [.int v_12]) (rest := []) (As := [.ref a_9]) hX X I eu_11 rfl (mJ2_add hX ev_12) lvX18_103_J2 hdX18_103_J2 ⟨Nat.le_trans (Nat.le_of_ble_eq_true rfl) hR.1, Nat.le_trans (Nat.le_of_ble_eq_true rfl) hR.2⟩ rfl hl.1 rfl (Nat.le_of_ble_eq_true rfl) rfl dX18_pick_71 (fun H locs cells slots I => ?_)
    refine lv_pop hx hb dX18_pick_76 rfl ?_
    cases os hf
    exact r_vret X I dX18_pick_77
theorem wX18_pick_18 {E : EV} {l : Launch} {p : Program} {e : Env} {s : State} {m : MethodId} {args : Array Value} {below : List Frame} {meth : Method} {c : Code} {R : Room} {res : St} (hX : XK E) (hR : 7 ≤ R.frames ∧ 171 ≤ R.locals) (X : MX E p s m args meth c cX18_pick 4 none RX18 "pick") : ∀ (x0 : Nat) (x1 : Nat) (x2 : Nat) (y0 : Nat) (y1 : Int32) (σ : St) (H : Heap) (locs : List Loc) (cells slots : Nat) (ls : Array Slot), WI E R s σ H locs cells slots → lv_has ls 4 [(0, .ref x0), (1, .ref x1), (2, .ref x2)] → fX18_pick_18 E.2.2.2.1 x0 x1 x2 y0 y1 σ = some res → W p l e R s m args below meth c H locs cells slots (MQ below (Qd E R.cells R.slots none res) args s R.cells R.slots (fr E)) (F0 m 18 ls [.int y1, .ref y0]) := by
  intro x0 x1 x2 y0 y1 σ H locs cells slots ls I hl hf
  obtain ⟨⟨hx, hb, hml, hown, hts⟩, -⟩ := id X
  unfold fX18_pick_18 at hf
  obtain ⟨σ_14, eσ_14, hf⟩ := ob hf
  refine g_putN hX X I pfX18_87 rfl rfl eσ_14 dX18_pick_18 (fun H locs I => ?_)
  refine lv_aload_n hx hb dX18_pick_21 rfl (lv_at hl 0 rfl) ?_
  refine lv_aload_n hx hb dX18_pick_22 rfl (lv_at hl 1 rfl) ?_
  refine lv_aload_n hx hb dX18_pick_23 rfl (lv_at hl 2 rfl) ?_
  refine lv_aload_n hx hb dX18_pick_24 rfl (lv_at hl 2 rfl) ?_
  obtain ⟨v_15, ev_15, hf⟩ := ob hf
  refine g_getN hX X I gfX18_83 (gI_in ev_15) dX18_pick_25 ?_
  refine lv_if_eq (tgt := 43) hx hb dX18_pick_28 (by decide) (fun c_28 => ?_) (fun c_28 => ?_)
  · have hf := ip c_28 hf
    refine lv_aload_n hx hb dX18_pick_43 rfl (lv_at hl 0 rfl) ?_
    obtain ⟨v_16, ev_16, hf⟩ := ob hf
    refine g_get X I gfX18_9 (gR_in ev_16) dX18_pick_44 ?_
    obtain ⟨a_17, ea_17, hga_17⟩ := ob hf
    have hla_17 := hl
    have Ia_17 := I
    subst ea_17
    have hf := hga_17
    have hl := hla_17
    have I := Ia_17
    obtain ⟨v_18, ev_18, hf⟩ := ob hf
    refine g_getN hX X I gfX18_93 (gI_in ev_18) dX18_pick_47 ?_
    exact wX18_pick_50 hX hR X x1 x2 x0 x1 x2 v_18 σ_14 _ _ _ _ _ I (lv_sub hl [1, 2] rfl) hf
  · have hf := im c_28 hf
    refine lv_aload_n hx hb dX18_pick_31 rfl (lv_at hl 0 rfl) ?_
    obtain ⟨v_19, ev_19, hf⟩ := ob hf
    refine g_get X I gfX18_9 (gR_in ev_19) dX18_pick_32 ?_
    obtain ⟨a_20, ea_20, hga_20⟩ := ob hf
    have hla_20 := hl
    have Ia_20 := I
    subst ea_20
    have hf := hga_20
    have hl := hla_20
    have I := Ia_20
    obtain ⟨v_21, ev_21, hf⟩ := ob hf
    refine g_getN hX X I gfX18_89 (gR_in ev_21) dX18_pick_35 ?_
    refine lv_iconst (v := 4) hx hb dX18_pick_38 (by decide) ?_
    obtain ⟨a_22, ea_22, hga_22⟩ := ob hf
    have hla_22 := hl
    have Ia_22 := I
    subst ea_22
    have hf := hga_22
    have hl := hla_22
    have I := Ia_22
    obtain ⟨v_23, ev_23, hf⟩ := ob hf
    refine g_iald X I ev_23 dX18_pick_39 ?_
    refine lv_goto (tgt := 50) hx hb dX18_pick_40 (by decide) ?_
    exact wX18_pick_50 hX hR X x1 x2 x0 x1 x2 v_23 σ_14 _ _ _ _ _ I (lv_sub hl [1, 2] rfl) hf
theorem wX18_pick_0 {E : EV} {l : Launch} {p : Program} {e : Env} {s : State} {m : MethodId} {args : Array Value} {below : List Frame} {meth : Method} {c : Code} {R : Room} {res : St} (hX : XK E) (hR : 7 ≤ R.frames ∧ 171 ≤ R.locals) (X : MX E p s m args meth c cX18_pick 4 none RX18 "pick") : ∀ (x0 : Nat) (x1 : Nat) (x2 : Nat) (x3 : Int32) (σ : St) (H : Heap) (locs : List Loc) (cells slots : Nat) (ls : Array Slot), WI E R s σ H locs cells slots → lv_has ls 4 [(0, .ref x0), (1, .ref x1), (2, .ref x2), (3, .int x3)] → fX18_pick E.2.2.2.1 σ x0 x1 x2 x3 = some res → W p l e R s m args below meth c H locs cells slots (MQ below (Qd E R.cells R.slots none res) args s R.cells R.slots (fr E)) (F0 m 0 ls []) := by
  intro x0 x1 x2 x3 σ H locs cells slots ls I hl hf
  obtain ⟨⟨hx, hb, hml, hown, hts⟩, -⟩ := id X
  unfold fX18_pick at hf
  refine lv_aload_n hx hb dX18_pick_0 rfl (lv_at hl 2 rfl) ?_
  refine lv_iload_n hx hb dX18_pick_1 rfl (lv_at hl 3 rfl) ?_
  obtain ⟨σ_24, eσ_24, hf⟩ := ob hf
  refine g_putN hX X I pfX18_80 rfl rfl eσ_24 dX18_pick_2 (fun H locs I => ?_)
  refine lv_aload_n hx hb dX18_pick_5 rfl (lv_at hl 2 rfl) ?_
  refine lv_aload_n hx hb dX18_pick_6 rfl (lv_at hl 2 rfl) ?_
  obtain ⟨v_25, ev_25, hf⟩ := ob hf
  refine g_getN hX X I gfX18_83 (gI_in ev_25) dX18_pick_7 ?_
  refine lv_if_eq (tgt := 17) hx hb dX18_pick_10 (by decide) (fun c_10 => ?_) (fun c_10 => ?_)
  · have hf := ip c_10 hf
    refine lv_iconst (v := 2) hx hb dX18_pick_17 (by decide) ?_
    exact wX18_pick_18 hX hR X x0 x1 x2 x2 (2 : Int32) σ_24 _ _ _ _ _ I (lv_sub hl [0, 1, 2] rfl) hf
  · have hf := im c_10 hf
    refine lv_iconst (v := 5) hx hb dX18_pick_13 (by decide) ?_
    refine lv_goto (tgt := 18) hx hb dX18_pick_14 (by decide) ?_
    exact wX18_pick_18 hX hR X x0 x1 x2 x2 (5 : Int32) σ_24 _ _ _ _ _ I (lv_sub hl [0, 1, 2] rfl) hf
theorem mX18_pick {E : EV} {l : Launch} {σ : St} {x0 : Nat} {x1 : Nat} {x2 : Nat} {x3 : Int32} {res : St} (hX : XK E) (hf : fX18_pick E.2.2.2.1 σ x0 x1 x2 x3 = some res) : CM E l yX18_pick (ws_ yX18_pick cX18_pick 4 none) 7 171 [.ref x0, .ref x1, .ref x2, .int x3] σ none res := by
  refine CM.of hX.1 (by decide) rfl rfl (Nat.le_of_ble_eq_true rfl) ?_
  intro p e s m below meth c X I ls hl
  exact wX18_pick_0 hX ⟨Nat.le_refl _, Nat.le_refl _⟩ X _ _ _ _ _ _ _ _ _ _ I hl hf
/-! SharedTaxis$Passing.happen(LSharedTaxis$Taxi;LSharedTaxis$Walk;)V imp=True fuel=True kap=True rt=None thr=False -/
theorem gfX18_144 : ∀ q ∈ ([(11, 4)] : List (Nat × Nat)), GN RX18 144 q := List.forall_mem_cons.mpr ⟨⟨RX13, TX13, 17, _, rfl, in_X13, by decide, q1644⟩, fun _ h => by cases h⟩
theorem pfX18_147 : ∀ q ∈ ([(10, 2)] : List (Nat × Nat)), PN RX18 147 .int q := List.forall_mem_cons.mpr ⟨⟨RX12, TX12, 15, _, tyX12, rfl, in_X12, by decide, q912, tyX12_ok, nmX12, rfl, rfl⟩, fun _ h => by cases h⟩
theorem gfX18_129 : ∀ q ∈ ([(11, 12)] : List (Nat × Nat)), GN RX18 129 q := List.forall_mem_cons.mpr ⟨⟨RX13, TX13, 17, _, rfl, in_X13, by decide, q1666⟩, fun _ h => by cases h⟩
theorem pfX18_148 : ∀ q ∈ ([(10, 3)] : List (Nat × Nat)), PN RX18 148 .int q := List.forall_mem_cons.mpr ⟨⟨RX12, TX12, 15, _, tyX12, rfl, in_X12, by decide, q916, tyX12_ok, nmX12, rfl, rfl⟩, fun _ h => by cases h⟩
theorem gfX18_151 : ∀ q ∈ ([(11, 13)] : List (Nat × Nat)), GN RX18 151 q := List.forall_mem_cons.mpr ⟨⟨RX13, TX13, 17, _, rfl, in_X13, by decide, q1670⟩, fun _ h => by cases h⟩
theorem pfX18_154 : ∀ q ∈ ([(10, 5)] : List (Nat × Nat)), PN RX18 154 .int q := List.forall_mem_cons.mpr ⟨⟨RX12, TX12, 15, _, tyX12, rfl, in_X12, by decide, q923, tyX12_ok, nmX12, rfl, rfl⟩, fun _ h => by cases h⟩
theorem pfX18_155 : ∀ q ∈ ([(10, 6)] : List (Nat × Nat)), PN RX18 155 .int q := List.forall_mem_cons.mpr ⟨⟨RX12, TX12, 15, _, tyX12, rfl, in_X12, by decide, q927, tyX12_ok, nmX12, rfl, rfl⟩, fun _ h => by cases h⟩
theorem gfX18_158 : ∀ q ∈ ([(10, 7)] : List (Nat × Nat)), GN RX18 158 q := List.forall_mem_cons.mpr ⟨⟨RX12, TX12, 15, _, rfl, in_X12, by decide, q933⟩, fun _ h => by cases h⟩
theorem lvX18_161_J2 : GoodIn lw_all (va_wsF RX18 161 RJ2 ⟨"java/util/List", "remove", "(I)Ljava/lang/Object;"⟩ yJ2_remove_2 (ws_ yJ2_remove_2 cJ2_remove_2 4 (some (.object "java/lang/Object")))) ∧ (RJ2, ⟨"java/util/List", "remove", "(I)Ljava/lang/Object;"⟩, yJ2_remove_2) ∈ FWL := ⟨lw_good (List.forall_mem_cons.mpr ⟨q2306, List.forall_mem_cons.mpr ⟨q2309, List.forall_mem_cons.mpr ⟨q2213, List.forall_mem_cons.mpr ⟨q118, fun w h => (lw_meth q2215 w h).1⟩⟩⟩⟩), List.mem_of_getElem? (i := 14) rfl⟩
theorem hdX18_161_J2 : (⟨"java/util/List", "remove", "(I)Ljava/lang/Object;"⟩ : MethodName).cls ≠ "java/lang/invoke/MethodHandle" ∧ (⟨"java/util/List", "remove", "(I)Ljava/lang/Object;"⟩ : MethodName).cls ≠ "java/lang/invoke/VarHandle" ∧ (parseMethodDescriptor (⟨"java/util/List", "remove", "(I)Ljava/lang/Object;"⟩ : MethodName).desc).map (fun d => d.parameters.length) = some 1 := by decide +kernel
theorem gfX18_163 : ∀ q ∈ ([(16, 2)] : List (Nat × Nat)), GF RX18 163 q := List.forall_mem_cons.mpr ⟨⟨RX18, TX18, 3, _, rfl, in_X18, by decide, q2252, Or.inl rfl⟩, fun _ h => by cases h⟩
theorem pfX18_163 : ∀ q ∈ ([(16, 2)] : List (Nat × Nat)), PF RX18 163 .int q := List.forall_mem_cons.mpr ⟨⟨RX18, TX18, 3, _, tyX18, rfl, in_X18, by decide, q2252, Or.inl rfl, tyX18_ok, nmX18, rfl, rfl⟩, fun _ h => by cases h⟩
theorem gfX18_107 : ∀ q ∈ ([(11, 9)] : List (Nat × Nat)), GN RX18 107 q := List.forall_mem_cons.mpr ⟨⟨RX13, TX13, 17, _, rfl, in_X13, by decide, q1657⟩, fun _ h => by cases h⟩
theorem lvX18_112 : GoodIn lw_all (wsV RX18 112 RX18 yX18_pay (ws_ yX18_pay cX18_pay 6 none)) := lw_V q2283 q2285 qs34 q157 q2286
theorem hdX18_112 : yX18_pay.cls = RX18 ∧ yX18_pay.cls ≠ "java/lang/invoke/MethodHandle" ∧ yX18_pay.cls ≠ "java/lang/invoke/VarHandle" ∧ (parseMethodDescriptor yX18_pay.desc).map (fun d => d.parameters.length) = some 2 := by decide +kernel
theorem gfX18_116 : ∀ q ∈ ([(11, 7)] : List (Nat × Nat)), GN RX18 116 q := List.forall_mem_cons.mpr ⟨⟨RX13, TX13, 17, _, rfl, in_X13, by decide, q1650⟩, fun _ h => by cases h⟩
theorem gfX18_120 : ∀ q ∈ ([(13, 1)] : List (Nat × Nat)), GN RX18 120 q := List.forall_mem_cons.mpr ⟨⟨RX15, TX15, 2, _, rfl, in_X15, by decide, q1826⟩, fun _ h => by cases h⟩
theorem gfX18_125 : ∀ q ∈ ([(11, 8)] : List (Nat × Nat)), GN RX18 125 q := List.forall_mem_cons.mpr ⟨⟨RX13, TX13, 17, _, rfl, in_X13, by decide, q1653⟩, fun _ h => by cases h⟩
theorem gfX18_135 : ∀ q ∈ ([(11, 11)] : List (Nat × Nat)), GN RX18 135 q := List.forall_mem_cons.mpr ⟨⟨RX13, TX13, 17, _, rfl, in_X13, by decide, q1663⟩, fun _ h => by cases h⟩
theorem pfX18_138 : ∀ q ∈ ([(14, 11)] : List (Nat × Nat)), PN RX18 138 .int q := List.forall_mem_cons.mpr ⟨⟨RX16, TX16, 15, _, tyX16, rfl, in_X16, by decide, q1140, tyX16_ok, nmX16, rfl, rfl⟩, fun _ h => by cases h⟩
theorem lvX18_141_J2 : GoodIn lw_all (va_wsF RX18 141 RJ2 ⟨"java/util/List", "remove", "(Ljava/lang/Object;)Z"⟩ yJ2_remove (ws_ yJ2_remove cJ2_remove 5 (some .boolean))) ∧ (RJ2, ⟨"java/util/List", "remove", "(Ljava/lang/Object;)Z"⟩, yJ2_remove) ∈ FWL := ⟨lw_good (List.forall_mem_cons.mpr ⟨q2304, List.forall_mem_cons.mpr ⟨q2004, List.forall_mem_cons.mpr ⟨q2006, List.forall_mem_cons.mpr ⟨q118, fun w h => (lw_meth q2008 w h).1⟩⟩⟩⟩), List.mem_of_getElem? (i := 15) rfl⟩
theorem hdX18_141_J2 : (⟨"java/util/List", "remove", "(Ljava/lang/Object;)Z"⟩ : MethodName).cls ≠ "java/lang/invoke/MethodHandle" ∧ (⟨"java/util/List", "remove", "(Ljava/lang/Object;)Z"⟩ : MethodName).cls ≠ "java/lang/invoke/VarHandle" ∧ (parseMethodDescriptor (⟨"java/util/List", "remove", "(Ljava/lang/Object;)Z"⟩ : MethodName).desc).map (fun d => d.parameters.length) = some 1 := by decide +kernel
theorem lvX18_132 : GoodIn lw_all (wsV RX18 132 RX18 yX18_pick (ws_ yX18_pick cX18_pick 4 none)) := lw_V q2296 q2298 qs36 q157 q2299
theorem hdX18_132 : yX18_pick.cls = RX18 ∧ yX18_pick.cls ≠ "java/lang/invoke/MethodHandle" ∧ yX18_pick.cls ≠ "java/lang/invoke/VarHandle" ∧ (parseMethodDescriptor yX18_pick.desc).map (fun d => d.parameters.length) = some 3 := by decide +kernel
def fX18_happen_74 (N : Nat) (κ : Nat → Nat) (x0 : Nat) (x1 : Nat) (x2 : Nat) (σ : St) : Option St := (gI σ x2 [(11, 4)]).bind fun v_1 : Int32 => (pV σ x1 [(10, 2)] (.int v_1)).bind fun σ_2 : St => (gI σ_2 x2 [(11, 12)]).bind fun v_3 : Int32 => (pV σ_2 x1 [(10, 3)] (.int v_3)).bind fun σ_4 : St => (gI σ_4 x2 [(11, 13)]).bind fun v_5 : Int32 => (pV σ_4 x1 [(10, 5)] (.int v_5)).bind fun σ_6 : St => (pV σ_6 x1 [(10, 6)] (.int (-1 : Int32))).bind fun σ_7 : St => (gR σ_7 x1 [(10, 7)]).bind fun v_8 : Option Nat => (v_8).bind fun a_9 : Nat => (isC σ_7 a_9 21).bind fun u_10 : Unit => (fJ2_remove_2 σ_7 a_9 (0 : Int32)).bind fun (v_11, σ_12) => (gI σ_12 x0 [(16, 2)]).bind fun v_13 : Int32 => (pV σ_12 x0 [(16, 2)] (.int (v_13 + (1 : Int32)))).bind fun σ_14 : St => some σ_14
def fX18_happen (N : Nat) (κ : Nat → Nat) (σ : St) (x0 : Nat) (x1 : Nat) (x2 : Nat) : Option St := (gI σ x2 [(11, 9)]).bind fun v_15 : Int32 => (isC σ x0 16).bind fun u_16 : Unit => (fX18_pay N σ x0 x1 v_15).bind fun σ_18 : St => (gR σ_18 x2 [(11, 7)]).bind fun v_19 : Option Nat => (v_19).bind fun a_20 : Nat => (gI σ_18 a_20 [(13, 1)]).bind fun v_21 : Int32 => if v_21 = 0 then (gR σ_18 x2 [(11, 8)]).bind fun v_22 : Option Nat => (v_22).bind fun a_23 : Nat => (pV σ_18 a_23 [(14, 8)] (.int (3 : Int32))).bind fun σ_24 : St => (gR σ_24 x2 [(11, 8)]).bind fun v_25 : Option Nat => (gI σ_24 x2 [(11, 11)]).bind fun v_26 : Int32 => (v_25).bind fun a_27 : Nat => (pV σ_24 a_27 [(14, 11)] (.int v_26)).bind fun σ_28 : St => (gR σ_28 x1 [(10, 8)]).bind fun v_29 : Option Nat => (gR σ_28 x2 [(11, 8)]).bind fun v_30 : Option Nat => (v_30).bind fun a_31 : Nat => (gI σ_28 a_31 [(14, 0)]).bind fun v_32 : Int32 => (fJ18_valueOf κ σ_28 v_32).bind fun (v_33, σ_34) => (v_33).bind fun a_35 : Nat => (v_29).bind fun a_36 : Nat => (isC σ_34 a_36 21).bind fun u_37 : Unit => (fJ2_remove N σ_34 a_36 a_35).bind fun (v_38, σ_39) => fX18_happen_74 N κ x0 x1 x2 σ_39 else (gR σ_18 x2 [(11, 8)]).bind fun v_40 : Option Nat => (gI σ_18 x2 [(11, 12)]).bind fun v_41 : Int32 => (v_40).bind fun a_42 : Nat => (isC σ_18 x0 16).bind fun u_43 : Unit => (fX18_pick κ σ_18 x0 x1 a_42 v_41).bind fun σ_45 : St => fX18_happen_74 N κ x0 x1 x2 σ_45
theorem wX18_happen_74 {E : EV} {l : Launch} {p : Program} {e : Env} {s : State} {m : MethodId} {args : Array Value} {below : List Frame} {meth : Method} {c : Code} {R : Room} {res : St} (hX : XK E) (hR : 8 ≤ R.frames ∧ 194 ≤ R.locals) (X : MX E p s m args meth c cX18_happen 3 none RX18 "happen") (N : Nat) : ∀ (x0 : Nat) (x1 : Nat) (x2 : Nat) (σ : St) (H : Heap) (locs : List Loc) (cells slots : Nat) (ls : Array Slot), WI E R s σ H locs cells slots → lv_has ls 3 [(0, .ref x0), (1, .ref x1), (2, .ref x2)] → fX18_happen_74 N E.2.2.2.1 x0 x1 x2 σ = some res → W p l e R s m args below meth c H locs cells slots (MQ below (Qd E R.cells R.slots none res) args s R.cells R.slots (fr E)) (F0 m 74 ls []) := by
  intro x0 x1 x2 σ H locs cells slots ls I hl hf
  obtain ⟨⟨hx, hb, hml, hown, hts⟩, -⟩ := id X
  unfold fX18_happen_74 at hf
  refine lv_aload_n hx hb dX18_happen_74 rfl (lv_at hl 1 rfl) ?_
  refine lv_aload_n hx hb dX18_happen_75 rfl (lv_at hl 2 rfl) ?_
  obtain ⟨v_1, ev_1, hf⟩ := ob hf
  refine g_getN hX X I gfX18_144 (gI_in ev_1) dX18_happen_76 ?_
  obtain ⟨σ_2, eσ_2, hf⟩ := ob hf
  refine g_putN hX X I pfX18_147 rfl rfl eσ_2 dX18_happen_79 (fun H locs I => ?_)
  refine lv_aload_n hx hb dX18_happen_82 rfl (lv_at hl 1 rfl) ?_
  refine lv_aload_n hx hb dX18_happen_83 rfl (lv_at hl 2 rfl) ?_
  obtain ⟨v_3, ev_3, hf⟩ := ob hf
  refine g_getN hX X I gfX18_129 (gI_in ev_3) dX18_happen_84 ?_
  obtain ⟨σ_4, eσ_4, hf⟩ := ob hf
  refine g_putN hX X I pfX18_148 rfl rfl eσ_4 dX18_happen_87 (fun H locs I => ?_)
  refine lv_aload_n hx hb dX18_happen_90 rfl (lv_at hl 1 rfl) ?_
  refine lv_aload_n hx hb dX18_happen_91 rfl (lv_at hl 2 rfl) ?_
  obtain ⟨v_5, ev_5, hf⟩ := ob hf
  refine g_getN hX X I gfX18_151 (gI_in ev_5) dX18_happen_92 ?_
  obtain ⟨σ_6, eσ_6, hf⟩ := ob hf
  refine g_putN hX X I pfX18_154 rfl rfl eσ_6 dX18_happen_95 (fun H locs I => ?_)
  refine lv_aload_n hx hb dX18_happen_98 rfl (lv_at hl 1 rfl) ?_
  refine lv_iconst (v := (-1)) hx hb dX18_happen_99 (by decide) ?_
  obtain ⟨σ_7, eσ_7, hf⟩ := ob hf
  refine g_putN hX X I pfX18_155 rfl rfl eσ_7 dX18_happen_100 (fun H locs I => ?_)
  refine lv_aload_n hx hb dX18_happen_103 rfl (lv_at hl 1 rfl) ?_
  obtain ⟨v_8, ev_8, hf⟩ := ob hf
  refine g_getN hX X I gfX18_158 (gR_in ev_8) dX18_happen_104 ?_
  refine lv_iconst (v := 0) hx hb dX18_happen_107 (by decide) ?_
  obtain ⟨a_9, ea_9, hga_9⟩ := ob hf
  have hla_9 := hl
  have Ia_9 := I
  subst ea_9
  have hf := hga_9
  have hl := hla_9
  have I := Ia_9
  obtain ⟨u_10, eu_10, hf⟩ := ob hf
  obtain ⟨⟨v_11, σ_12⟩, ev_11, hf⟩ := ob hf
  refine cg_F (vw := (RJ2, TJ2, 3)) (ci := 21) (r := (some (va_rf v_11))) (σ' := σ_12) (rs := [va_rf v_11]) (rest := []) (As := [.int (0 : Int32)]) hX X I eu_10 rfl (mJ2_remove_2 hX ev_11) lvX18_161_J2 hdX18_161_J2 ⟨Nat.le_trans (Nat.le_of_ble_eq_true rfl) hR.1, Nat.le_trans (Nat.le_of_ble_eq_true rfl) hR.2⟩ rfl hl.1 rfl (Nat.le_of_ble_eq_true rfl) rfl dX18_happen_108 (fun H locs cells slots I => ?_)
  refine lv_pop hx hb dX18_happen_113 (rf_cat _) ?_
  refine lv_aload_n hx hb dX18_happen_114 rfl (lv_at hl 0 rfl) ?_
  refine lv_dup hx hb dX18_happen_115 rfl ?_
  obtain ⟨v_13, ev_13, hf⟩ := ob hf
  refine g_get X I gfX18_163 (gI_in ev_13) dX18_happen_116 ?_
  refine lv_iconst (v := 1) hx hb dX18_happen_119 (by decide) ?_
  refine lv_iadd hx hb dX18_happen_120 ?_
  obtain ⟨σ_14, eσ_14, hf⟩ := ob hf
  refine g_put X I pfX18_163 rfl rfl eσ_14 dX18_happen_121 (fun H locs I => ?_)
  cases os hf
  exact r_vret X I dX18_happen_124
theorem wX18_happen_0 {E : EV} {l : Launch} {p : Program} {e : Env} {s : State} {m : MethodId} {args : Array Value} {below : List Frame} {meth : Method} {c : Code} {R : Room} {res : St} (hX : XK E) (hR : 8 ≤ R.frames ∧ 194 ≤ R.locals) (X : MX E p s m args meth c cX18_happen 3 none RX18 "happen") (N : Nat) : ∀ (x0 : Nat) (x1 : Nat) (x2 : Nat) (σ : St) (H : Heap) (locs : List Loc) (cells slots : Nat) (ls : Array Slot), WI E R s σ H locs cells slots → lv_has ls 3 [(0, .ref x0), (1, .ref x1), (2, .ref x2)] → fX18_happen N E.2.2.2.1 σ x0 x1 x2 = some res → W p l e R s m args below meth c H locs cells slots (MQ below (Qd E R.cells R.slots none res) args s R.cells R.slots (fr E)) (F0 m 0 ls []) := by
  intro x0 x1 x2 σ H locs cells slots ls I hl hf
  obtain ⟨⟨hx, hb, hml, hown, hts⟩, -⟩ := id X
  unfold fX18_happen at hf
  refine lv_aload_n hx hb dX18_happen_0 rfl (lv_at hl 0 rfl) ?_
  refine lv_aload_n hx hb dX18_happen_1 rfl (lv_at hl 1 rfl) ?_
  refine lv_aload_n hx hb dX18_happen_2 rfl (lv_at hl 2 rfl) ?_
  obtain ⟨v_15, ev_15, hf⟩ := ob hf
  refine g_getN hX X I gfX18_107 (gI_in ev_15) dX18_happen_3 ?_
  obtain ⟨u_16, eu_16, hf⟩ := ob hf
  obtain ⟨σ_18, ev_17, hf⟩ := ob hf
  refine cg_V (vw := (RX18, TX18, 3)) (ci := 16) (r := none) (σ' := σ_18) (rs := []) (rest := []) (As := [.ref x1, .int v_15]) X I eu_16 rfl (mX18_pay hX ev_17) lvX18_112 hdX18_112 ⟨Nat.le_trans (Nat.le_of_ble_eq_true rfl) hR.1, Nat.le_trans (Nat.le_of_ble_eq_true rfl) hR.2⟩ rfl hl.1 rfl (Nat.le_of_ble_eq_true rfl) rfl dX18_happen_6 (fun H locs cells slots I => ?_)
  refine lv_aload_n hx hb dX18_happen_9 rfl (lv_at hl 2 rfl) ?_
  obtain ⟨v_19, ev_19, hf⟩ := ob hf
  refine g_getN hX X I gfX18_116 (gR_in ev_19) dX18_happen_10 ?_
  obtain ⟨a_20, ea_20, hga_20⟩ := ob hf
  have hla_20 := hl
  have Ia_20 := I
  subst ea_20
  have hf := hga_20
  have hl := hla_20
  have I := Ia_20
  obtain ⟨v_21, ev_21, hf⟩ := ob hf
  refine g_getN hX X I gfX18_120 (gI_in ev_21) dX18_happen_13 ?_
  refine lv_if_eq (tgt := 35) hx hb dX18_happen_16 (by decide) (fun c_16 => ?_) (fun c_16 => ?_)
  · have hf := ip c_16 hf
    refine lv_aload_n hx hb dX18_happen_35 rfl (lv_at hl 2 rfl) ?_
    obtain ⟨v_22, ev_22, hf⟩ := ob hf
    refine g_getN hX X I gfX18_125 (gR_in ev_22) dX18_happen_36 ?_
    refine lv_iconst (v := 3) hx hb dX18_happen_39 (by decide) ?_
    obtain ⟨a_23, ea_23, hga_23⟩ := ob hf
    have hla_23 := hl
    have Ia_23 := I
    subst ea_23
    have hf := hga_23
    have hl := hla_23
    have I := Ia_23
    obtain ⟨σ_24, eσ_24, hf⟩ := ob hf
    refine g_putN hX X I pfX18_87 rfl rfl eσ_24 dX18_happen_40 (fun H locs I => ?_)
    refine lv_aload_n hx hb dX18_happen_43 rfl (lv_at hl 2 rfl) ?_
    obtain ⟨v_25, ev_25, hf⟩ := ob hf
    refine g_getN hX X I gfX18_125 (gR_in ev_25) dX18_happen_44 ?_
    refine lv_aload_n hx hb dX18_happen_47 rfl (lv_at hl 2 rfl) ?_
    obtain ⟨v_26, ev_26, hf⟩ := ob hf
    refine g_getN hX X I gfX18_135 (gI_in ev_26) dX18_happen_48 ?_
    obtain ⟨a_27, ea_27, hga_27⟩ := ob hf
    have hla_27 := hl
    have Ia_27 := I
    subst ea_27
    have hf := hga_27
    have hl := hla_27
    have I := Ia_27
    obtain ⟨σ_28, eσ_28, hf⟩ := ob hf
    refine g_putN hX X I pfX18_138 rfl rfl eσ_28 dX18_happen_51 (fun H locs I => ?_)
    refine lv_aload_n hx hb dX18_happen_54 rfl (lv_at hl 1 rfl) ?_
    obtain ⟨v_29, ev_29, hf⟩ := ob hf
    refine g_getN hX X I gfX18_34 (gR_in ev_29) dX18_happen_55 ?_
    refine lv_aload_n hx hb dX18_happen_58 rfl (lv_at hl 2 rfl) ?_
    obtain ⟨v_30, ev_30, hf⟩ := ob hf
    refine g_getN hX X I gfX18_125 (gR_in ev_30) dX18_happen_59 ?_
    obtain ⟨a_31, ea_31, hga_31⟩ := ob hf
    have hla_31 := hl
    have Ia_31 := I
    subst ea_31
    have hf := hga_31
    have hl := hla_31
    have I := Ia_31
    obtain ⟨v_32, ev_32, hf⟩ := ob hf
    refine g_getN hX X I gfX18_96 (gI_in ev_32) dX18_happen_62 ?_
    obtain ⟨⟨v_33, σ_34⟩, ev_33, hf⟩ := ob hf
    refine cg_S (r := (some (va_rf v_33))) (σ' := σ_34) (rs := [va_rf v_33, va_rf v_29]) (rest := [va_rf v_29]) (As := [.int v_32]) X I (mJ18_valueOf hX ev_33) lvX18_99 hdX18_99 ⟨Nat.le_trans (Nat.le_of_ble_eq_true rfl) hR.1, Nat.le_trans (Nat.le_of_ble_eq_true rfl) hR.2⟩ rfl hl.1 rfl (by rcases v_29 with _ | _ <;> exact (Nat.le_of_ble_eq_true rfl)) rfl dX18_happen_65 (fun H locs cells slots I => ?_)
    obtain ⟨a_35, ea_35, hga_35⟩ := ob hf
    have hla_35 := hl
    have Ia_35 := I
    subst ea_35
    have hf := hga_35
    have hl := hla_35
    have I := Ia_35
    obtain ⟨a_36, ea_36, hga_36⟩ := ob hf
    have hla_36 := hl
    have Ia_36 := I
    subst ea_36
    have hf := hga_36
    have hl := hla_36
    have I := Ia_36
    obtain ⟨u_37, eu_37, hf⟩ := ob hf
    obtain ⟨⟨v_38, σ_39⟩, ev_38, hf⟩ := ob hf
    refine cg_F (vw := (RJ2, TJ2, 3)) (ci := 21) (r := (some (.int v_38))) (σ' := σ_39) (rs := [.int v_38]) (rest := []) (As := [.ref a_35]) hX X I eu_37 rfl (mJ2_remove hX ev_38) lvX18_141_J2 hdX18_141_J2 ⟨Nat.le_trans (Nat.le_of_ble_eq_true rfl) hR.1, Nat.le_trans (Nat.le_of_ble_eq_true rfl) hR.2⟩ rfl hl.1 rfl (Nat.le_of_ble_eq_true rfl) rfl dX18_happen_68 (fun H locs cells slots I => ?_)
    refine lv_pop hx hb dX18_happen_73 rfl ?_
    exact wX18_happen_74 hX hR X N x0 x1 x2 σ_39 _ _ _ _ _ I (lv_sub hl [0, 1, 2] rfl) hf
  · have hf := im c_16 hf
    refine lv_aload_n hx hb dX18_happen_19 rfl (lv_at hl 0 rfl) ?_
    refine lv_aload_n hx hb dX18_happen_20 rfl (lv_at hl 1 rfl) ?_
    refine lv_aload_n hx hb dX18_happen_21 rfl (lv_at hl 2 rfl) ?_
    obtain ⟨v_40, ev_40, hf⟩ := ob hf
    refine g_getN hX X I gfX18_125 (gR_in ev_40) dX18_happen_22 ?_
    refine lv_aload_n hx hb dX18_happen_25 rfl (lv_at hl 2 rfl) ?_
    obtain ⟨v_41, ev_41, hf⟩ := ob hf
    refine g_getN hX X I gfX18_129 (gI_in ev_41) dX18_happen_26 ?_
    obtain ⟨a_42, ea_42, hga_42⟩ := ob hf
    have hla_42 := hl
    have Ia_42 := I
    subst ea_42
    have hf := hga_42
    have hl := hla_42
    have I := Ia_42
    obtain ⟨u_43, eu_43, hf⟩ := ob hf
    obtain ⟨σ_45, ev_44, hf⟩ := ob hf
    refine cg_V (vw := (RX18, TX18, 3)) (ci := 16) (r := none) (σ' := σ_45) (rs := []) (rest := []) (As := [.ref x1, .ref a_42, .int v_41]) X I eu_43 rfl (mX18_pick hX ev_44) lvX18_132 hdX18_132 ⟨Nat.le_trans (Nat.le_of_ble_eq_true rfl) hR.1, Nat.le_trans (Nat.le_of_ble_eq_true rfl) hR.2⟩ rfl hl.1 rfl (Nat.le_of_ble_eq_true rfl) rfl dX18_happen_29 (fun H locs cells slots I => ?_)
    refine lv_goto (tgt := 74) hx hb dX18_happen_32 (by decide) ?_
    exact wX18_happen_74 hX hR X N x0 x1 x2 σ_45 _ _ _ _ _ I (lv_sub hl [0, 1, 2] rfl) hf
theorem mX18_happen {E : EV} {l : Launch} {N : Nat} {σ : St} {x0 : Nat} {x1 : Nat} {x2 : Nat} {res : St} (hX : XK E) (hf : fX18_happen N E.2.2.2.1 σ x0 x1 x2 = some res) : CM E l yX18_happen (ws_ yX18_happen cX18_happen 3 none) 8 194 [.ref x0, .ref x1, .ref x2] σ none res := by
  refine CM.of hX.1 (by decide) rfl rfl (Nat.le_of_ble_eq_true rfl) ?_
  intro p e s m below meth c X I ls hl
  exact wX18_happen_0 hX ⟨Nat.le_refl _, Nat.le_refl _⟩ X N _ _ _ _ _ _ _ _ _ I hl hf
/-! SharedTaxis$Passing.run(LSharedTaxis$Taxi;)V imp=True fuel=True kap=True rt=None thr=False -/
theorem lvX18_169_J2 : GoodIn lw_all (va_wsF RX18 169 RJ2 ⟨"java/util/List", "isEmpty", "()Z"⟩ yJ2_isEmpty (ws_ yJ2_isEmpty cJ2_isEmpty 1 (some .boolean))) ∧ (RJ2, ⟨"java/util/List", "isEmpty", "()Z"⟩, yJ2_isEmpty) ∈ FWL := ⟨lw_good (List.forall_mem_cons.mpr ⟨q2276, List.forall_mem_cons.mpr ⟨q1881, List.forall_mem_cons.mpr ⟨q1883, List.forall_mem_cons.mpr ⟨q118, fun w h => (lw_meth q1885 w h).1⟩⟩⟩⟩), List.mem_of_getElem? (i := 12) rfl⟩
theorem hdX18_169_J2 : (⟨"java/util/List", "isEmpty", "()Z"⟩ : MethodName).cls ≠ "java/lang/invoke/MethodHandle" ∧ (⟨"java/util/List", "isEmpty", "()Z"⟩ : MethodName).cls ≠ "java/lang/invoke/VarHandle" ∧ (parseMethodDescriptor (⟨"java/util/List", "isEmpty", "()Z"⟩ : MethodName).desc).map (fun d => d.parameters.length) = some 0 := by decide +kernel
theorem lvX18_173 : GoodIn lw_all (wsV RX18 173 RX13 yX13_begin (ws_ yX13_begin cX13_begin 4 (some (.object "SharedTaxis$Walk")))) := lw_V q2277 q1710 q1711 q149 q1712
theorem hdX18_173 : yX13_begin.cls = RX13 ∧ yX13_begin.cls ≠ "java/lang/invoke/MethodHandle" ∧ yX13_begin.cls ≠ "java/lang/invoke/VarHandle" ∧ (parseMethodDescriptor yX13_begin.desc).map (fun d => d.parameters.length) = some 2 := by decide +kernel
theorem lvX18_177 : GoodIn lw_all (wsV RX18 177 RX13 yX13_next (ws_ yX13_next cX13_next 2 none)) := lw_V q2278 q1722 q1723 q149 q1724
theorem hdX18_177 : yX13_next.cls = RX13 ∧ yX13_next.cls ≠ "java/lang/invoke/MethodHandle" ∧ yX13_next.cls ≠ "java/lang/invoke/VarHandle" ∧ (parseMethodDescriptor yX13_next.desc).map (fun d => d.parameters.length) = some 0 := by decide +kernel
theorem gfX18_21 : ∀ q ∈ ([(16, 1)] : List (Nat × Nat)), GF RX18 21 q := List.forall_mem_cons.mpr ⟨⟨RX18, TX18, 3, _, rfl, in_X18, by decide, q2251, Or.inl rfl⟩, fun _ h => by cases h⟩
theorem lvX18_183 : GoodIn lw_all (wsV RX18 183 RX18 yX18_happen (ws_ yX18_happen cX18_happen 3 none)) := lw_V q2279 q2281 qs33 q157 q2282
theorem hdX18_183 : yX18_happen.cls = RX18 ∧ yX18_happen.cls ≠ "java/lang/invoke/MethodHandle" ∧ yX18_happen.cls ≠ "java/lang/invoke/VarHandle" ∧ (parseMethodDescriptor yX18_happen.desc).map (fun d => d.parameters.length) = some 2 := by decide +kernel
theorem gfX18_180 : ∀ q ∈ ([(11, 10)] : List (Nat × Nat)), GN RX18 180 q := List.forall_mem_cons.mpr ⟨⟨RX13, TX13, 17, _, rfl, in_X13, by decide, q1660⟩, fun _ h => by cases h⟩
theorem noX18_108 : NO RX18 108 11 17 [.null, .null, .null, .int 0, .int 0, .int 0, .int 0, .null, .null, .int 0, .int 0, .int 0, .int 0, .int 0, .int 0, .int 0, .null] := ⟨RX13, TX13, tyX13, rfl, in_X13, tyX13_ok, by decide, q2273, q1633, q149⟩
theorem lvX18_166 : GoodIn lw_all (ws_ yX13_init cX13_init 2 none) ∧ Cond.initialized yX13_init.cls ∈ lw_all ∧ Cond.methodLink RX18 166 yX13_init ∈ lw_all ∧ Cond.instanceMethod yX13_init ∈ lw_all ∧ yX13_init.name = "<init>" := ⟨lw_meth q1636, q149, q2274, q1635, rfl⟩
theorem hdX18_166 : yX13_init.cls ≠ "java/lang/invoke/MethodHandle" ∧ yX13_init.cls ≠ "java/lang/invoke/VarHandle" ∧ (parseMethodDescriptor yX13_init.desc).map (fun d => d.parameters.length) = some 1 := by decide +kernel
def fX18_run_12 (N : Nat) (κ : Nat → Nat) : Nat → Nat → Nat → Nat → St → Option St
  | 0, _, _, _, _ => none
  | n + 1, x0, x1, x2, σ => (gR σ x1 [(10, 7)]).bind fun v_1 : Option Nat => (v_1).bind fun a_2 : Nat => (isC σ a_2 21).bind fun u_3 : Unit => (fJ2_isEmpty σ a_2).bind fun v_4 : Int32 => if v_4 = 0 then (gR σ x1 [(10, 7)]).bind fun v_6 : Option Nat => (v_6).bind fun a_7 : Nat => (isC σ x2 11).bind fun u_8 : Unit => (fX13_begin N σ x2 x1 a_7).bind fun (v_9, σ_10) => (isC σ_10 v_9 11).bind fun u_11 : Unit => (fX13_next σ_10 v_9).bind fun σ_13 : St => (gI σ_13 x2 [(11, 12)]).bind fun v_14 : Int32 => (gI σ_13 x0 [(16, 1)]).bind fun v_15 : Int32 => if v_14 ≤ v_15 then (isC σ_13 x0 16).bind fun u_16 : Unit => (fX18_happen N κ σ_13 x0 x1 x2).bind fun σ_18 : St => fX18_run_12 N κ n x0 x1 x2 σ_18 else (gI σ_13 x2 [(11, 10)]).bind fun v_19 : Int32 => (gI σ_13 x0 [(16, 1)]).bind fun v_20 : Int32 => if v_20 ≤ v_19 then (pV σ_13 x1 [(10, 6)] (.int (-1 : Int32))).bind fun σ_21 : St => some σ_21 else (gI σ_13 x2 [(11, 10)]).bind fun v_22 : Int32 => (pV σ_13 x1 [(10, 6)] (.int v_22)).bind fun σ_23 : St => some σ_23 else some σ
def fX18_run (N : Nat) (κ : Nat → Nat) (σ : St) (x0 : Nat) (x1 : Nat) : Option St := (nH σ 17 (.inr (11, [.null, .null, .null, .int 0, .int 0, .int 0, .int 0, .null, .null, .int 0, .int 0, .int 0, .int 0, .int 0, .int 0, .int 0, .null]))).bind fun (q_24a, q_24s) => (gR q_24s x0 [(16, 0)]).bind fun v_25 : Option Nat => (v_25).bind fun a_26 : Nat => (fX13_init q_24s q_24a a_26).bind fun σ_28 : St => fX18_run_12 N κ N x0 x1 q_24a σ_28
theorem wX18_run_12 {E : EV} {l : Launch} {p : Program} {e : Env} {s : State} {m : MethodId} {args : Array Value} {below : List Frame} {meth : Method} {c : Code} {R : Room} {res : St} (hX : XK E) (hR : 9 ≤ R.frames ∧ 216 ≤ R.locals) (X : MX E p s m args meth c cX18_run 3 none RX18 "run") (N : Nat) : ∀ (n : Nat) (x0 : Nat) (x1 : Nat) (x2 : Nat) (σ : St) (H : Heap) (locs : List Loc) (cells slots : Nat) (ls : Array Slot), WI E R s σ H locs cells slots → lv_has ls 3 [(0, .ref x0), (1, .ref x1), (2, .ref x2)] → fX18_run_12 N E.2.2.2.1 n x0 x1 x2 σ = some res → W p l e R s m args below meth c H locs cells slots (MQ below (Qd E R.cells R.slots none res) args s R.cells R.slots (fr E)) (F0 m 12 ls []) := by
  intro n
  induction n with
  | zero => intro x0 x1 x2 σ H locs cells slots ls I hl hf; exact nomatch (show none = some res from hf)
  | succ n ih =>
    intro x0 x1 x2 σ H locs cells slots ls I hl hf
    obtain ⟨⟨hx, hb, hml, hown, hts⟩, -⟩ := id X
    rw [fX18_run_12.eq_2] at hf
    refine lv_aload_n hx hb dX18_run_12 rfl (lv_at hl 1 rfl) ?_
    obtain ⟨v_1, ev_1, hf⟩ := ob hf
    refine g_getN hX X I gfX18_158 (gR_in ev_1) dX18_run_13 ?_
    obtain ⟨a_2, ea_2, hga_2⟩ := ob hf
    have hla_2 := hl
    have Ia_2 := I
    subst ea_2
    have hf := hga_2
    have hl := hla_2
    have I := Ia_2
    obtain ⟨u_3, eu_3, hf⟩ := ob hf
    obtain ⟨v_4, ev_4, hf⟩ := ob hf
    refine cg_F (vw := (RJ2, TJ2, 3)) (ci := 21) (r := (some (.int v_4))) (σ' := σ) (rs := [.int v_4]) (rest := []) (As := []) hX X I eu_3 rfl (mJ2_isEmpty hX ev_4) lvX18_169_J2 hdX18_169_J2 ⟨Nat.le_trans (Nat.le_of_ble_eq_true rfl) hR.1, Nat.le_trans (Nat.le_of_ble_eq_true rfl) hR.2⟩ rfl hl.1 rfl (Nat.le_of_ble_eq_true rfl) rfl dX18_run_16 (fun H locs cells slots I => ?_)
    refine lv_if_ne (tgt := 80) hx hb dX18_run_21 (by decide) (fun c_21 => ?_) (fun c_21 => ?_)
    · have hf := im c_21 hf
      cases os hf
      exact r_vret X I dX18_run_80
    · have hf := ip c_21 hf
      refine lv_aload_n hx hb dX18_run_24 rfl (lv_at hl 2 rfl) ?_
      refine lv_aload_n hx hb dX18_run_25 rfl (lv_at hl 1 rfl) ?_
      refine lv_aload_n hx hb dX18_run_26 rfl (lv_at hl 1 rfl) ?_
      obtain ⟨v_6, ev_6, hf⟩ := ob hf
      refine g_getN hX X I gfX18_158 (gR_in ev_6) dX18_run_27 ?_
      obtain ⟨a_7, ea_7, hga_7⟩ := ob hf
      have hla_7 := hl
      have Ia_7 := I
      subst ea_7
      have hf := hga_7
      have hl := hla_7
      have I := Ia_7
      obtain ⟨u_8, eu_8, hf⟩ := ob hf
      obtain ⟨⟨v_9, σ_10⟩, ev_9, hf⟩ := ob hf
      refine cg_V (vw := (RX13, TX13, 17)) (ci := 11) (r := (some (.ref v_9))) (σ' := σ_10) (rs := [.ref v_9]) (rest := []) (As := [.ref x1, .ref a_7]) X I eu_8 rfl (mX13_begin hX ev_9) lvX18_173 hdX18_173 ⟨Nat.le_trans (Nat.le_of_ble_eq_true rfl) hR.1, Nat.le_trans (Nat.le_of_ble_eq_true rfl) hR.2⟩ rfl hl.1 rfl (Nat.le_of_ble_eq_true rfl) rfl dX18_run_30 (fun H locs cells slots I => ?_)
      obtain ⟨u_11, eu_11, hf⟩ := ob hf
      obtain ⟨σ_13, ev_12, hf⟩ := ob hf
      refine cg_V (vw := (RX13, TX13, 17)) (ci := 11) (r := none) (σ' := σ_13) (rs := []) (rest := []) (As := []) X I eu_11 rfl (mX13_next hX ev_12) lvX18_177 hdX18_177 ⟨Nat.le_trans (Nat.le_of_ble_eq_true rfl) hR.1, Nat.le_trans (Nat.le_of_ble_eq_true rfl) hR.2⟩ rfl hl.1 rfl (Nat.le_of_ble_eq_true rfl) rfl dX18_run_33 (fun H locs cells slots I => ?_)
      refine lv_aload_n hx hb dX18_run_36 rfl (lv_at hl 2 rfl) ?_
      obtain ⟨v_14, ev_14, hf⟩ := ob hf
      refine g_getN hX X I gfX18_129 (gI_in ev_14) dX18_run_37 ?_
      refine lv_aload_n hx hb dX18_run_40 rfl (lv_at hl 0 rfl) ?_
      obtain ⟨v_15, ev_15, hf⟩ := ob hf
      refine g_get X I gfX18_21 (gI_in ev_15) dX18_run_41 ?_
      refine lv_icmp_le (tgt := 71) hx hb dX18_run_44 (by decide) (fun c_44 => ?_) (fun c_44 => ?_)
      · have hf := ip c_44 hf
        refine lv_aload_n hx hb dX18_run_71 rfl (lv_at hl 0 rfl) ?_
        refine lv_aload_n hx hb dX18_run_72 rfl (lv_at hl 1 rfl) ?_
        refine lv_aload_n hx hb dX18_run_73 rfl (lv_at hl 2 rfl) ?_
        obtain ⟨u_16, eu_16, hf⟩ := ob hf
        obtain ⟨σ_18, ev_17, hf⟩ := ob hf
        refine cg_V (vw := (RX18, TX18, 3)) (ci := 16) (r := none) (σ' := σ_18) (rs := []) (rest := []) (As := [.ref x1, .ref x2]) X I eu_16 rfl (mX18_happen hX ev_17) lvX18_183 hdX18_183 ⟨Nat.le_trans (Nat.le_of_ble_eq_true rfl) hR.1, Nat.le_trans (Nat.le_of_ble_eq_true rfl) hR.2⟩ rfl hl.1 rfl (Nat.le_of_ble_eq_true rfl) rfl dX18_run_74 (fun H locs cells slots I => ?_)
        refine lv_goto (tgt := 12) hx hb dX18_run_77 (by decide) ?_
        exact ih x0 x1 x2 σ_18 _ _ _ _ _ I (lv_sub hl [0, 1, 2] rfl) hf
      · have hf := im c_44 hf
        refine lv_aload_n hx hb dX18_run_47 rfl (lv_at hl 1 rfl) ?_
        refine lv_aload_n hx hb dX18_run_48 rfl (lv_at hl 2 rfl) ?_
        obtain ⟨v_19, ev_19, hf⟩ := ob hf
        refine g_getN hX X I gfX18_180 (gI_in ev_19) dX18_run_49 ?_
        refine lv_aload_n hx hb dX18_run_52 rfl (lv_at hl 0 rfl) ?_
        obtain ⟨v_20, ev_20, hf⟩ := ob hf
        refine g_get X I gfX18_21 (gI_in ev_20) dX18_run_53 ?_
        refine lv_icmp_ge (tgt := 66) hx hb dX18_run_56 (by decide) (fun c_56 => ?_) (fun c_56 => ?_)
        · have hf := ip c_56 hf
          refine lv_iconst (v := (-1)) hx hb dX18_run_66 (by decide) ?_
          obtain ⟨σ_21, eσ_21, hf⟩ := ob hf
          refine g_putN hX X I pfX18_155 rfl rfl eσ_21 dX18_run_67 (fun H locs I => ?_)
          cases os hf
          exact r_vret X I dX18_run_70
        · have hf := im c_56 hf
          refine lv_aload_n hx hb dX18_run_59 rfl (lv_at hl 2 rfl) ?_
          obtain ⟨v_22, ev_22, hf⟩ := ob hf
          refine g_getN hX X I gfX18_180 (gI_in ev_22) dX18_run_60 ?_
          refine lv_goto (tgt := 67) hx hb dX18_run_63 (by decide) ?_
          obtain ⟨σ_23, eσ_23, hf⟩ := ob hf
          refine g_putN hX X I pfX18_155 rfl rfl eσ_23 dX18_run_67 (fun H locs I => ?_)
          cases os hf
          exact r_vret X I dX18_run_70
theorem wX18_run_0 {E : EV} {l : Launch} {p : Program} {e : Env} {s : State} {m : MethodId} {args : Array Value} {below : List Frame} {meth : Method} {c : Code} {R : Room} {res : St} (hX : XK E) (hR : 9 ≤ R.frames ∧ 216 ≤ R.locals) (X : MX E p s m args meth c cX18_run 3 none RX18 "run") (N : Nat) : ∀ (x0 : Nat) (x1 : Nat) (σ : St) (H : Heap) (locs : List Loc) (cells slots : Nat) (ls : Array Slot), WI E R s σ H locs cells slots → lv_has ls 3 [(0, .ref x0), (1, .ref x1)] → fX18_run N E.2.2.2.1 σ x0 x1 = some res → W p l e R s m args below meth c H locs cells slots (MQ below (Qd E R.cells R.slots none res) args s R.cells R.slots (fr E)) (F0 m 0 ls []) := by
  intro x0 x1 σ H locs cells slots ls I hl hf
  obtain ⟨⟨hx, hb, hml, hown, hts⟩, -⟩ := id X
  unfold fX18_run at hf
  obtain ⟨⟨q_24a, q_24s⟩, eq_24, hf⟩ := ob hf
  refine g_new X I noX18_108 eq_24 dX18_run_0 (fun H locs cells slots I => ?_)
  refine lv_dup hx hb dX18_run_3 rfl ?_
  refine lv_aload_n hx hb dX18_run_4 rfl (lv_at hl 0 rfl) ?_
  obtain ⟨v_25, ev_25, hf⟩ := ob hf
  refine g_get X I gfX18_9 (gR_in ev_25) dX18_run_5 ?_
  obtain ⟨a_26, ea_26, hga_26⟩ := ob hf
  have hla_26 := hl
  have Ia_26 := I
  subst ea_26
  have hf := hga_26
  have hl := hla_26
  have I := Ia_26
  obtain ⟨σ_28, ev_27, hf⟩ := ob hf
  refine cm_I (σ' := σ_28) (rs := [.ref q_24a]) (rest := [.ref q_24a]) (As := [.ref a_26]) X I (mX13_init hX ev_27) lvX18_166 hdX18_166 ⟨Nat.le_trans (Nat.le_of_ble_eq_true rfl) hR.1, Nat.le_trans (Nat.le_of_ble_eq_true rfl) hR.2⟩ rfl hl.1 rfl (Nat.le_of_ble_eq_true rfl) rfl dX18_run_8 (fun H locs cells slots I => ?_)
  refine lv_astore_n (lv' := [(2, .ref q_24a), (0, .ref x0), (1, .ref x1)]) hx hb dX18_run_11 rfl hl (by decide) rfl (fun ls hl => ?_)
  exact wX18_run_12 hX hR X N N x0 x1 q_24a σ_28 _ _ _ _ _ I (lv_sub hl [1, 2, 0] rfl) hf
theorem mX18_run {E : EV} {l : Launch} {N : Nat} {σ : St} {x0 : Nat} {x1 : Nat} {res : St} (hX : XK E) (hf : fX18_run N E.2.2.2.1 σ x0 x1 = some res) : CM E l yX18_run (ws_ yX18_run cX18_run 3 none) 9 216 [.ref x0, .ref x1] σ none res := by
  refine CM.of hX.1 (by decide) rfl rfl (Nat.le_of_ble_eq_true rfl) ?_
  intro p e s m below meth c X I ls hl
  exact wX18_run_0 hX ⟨Nat.le_refl _, Nat.le_refl _⟩ X N _ _ _ _ _ _ _ _ I hl hf
/-! SharedTaxis$Passing.all()I imp=True fuel=True kap=True rt=I thr=False -/
theorem gfX18_87 : ∀ q ∈ ([(14, 8)] : List (Nat × Nat)), GN RX18 87 q := List.forall_mem_cons.mpr ⟨⟨RX16, TX16, 15, _, rfl, in_X16, by decide, q1130⟩, fun _ h => by cases h⟩
theorem gfX18_194 : ∀ q ∈ ([(14, 14)] : List (Nat × Nat)), GN RX18 194 q := List.forall_mem_cons.mpr ⟨⟨RX16, TX16, 15, _, rfl, in_X16, by decide, q1150⟩, fun _ h => by cases h⟩
theorem gfX18_198 : ∀ q ∈ ([(15, 4)] : List (Nat × Nat)), GN RX18 198 q := List.forall_mem_cons.mpr ⟨⟨RX17, TX17, 5, _, rfl, in_X17, by decide, q2103⟩, fun _ h => by cases h⟩
theorem gfX18_187 : ∀ q ∈ ([(1, 5)] : List (Nat × Nat)), GN RX18 187 q := List.forall_mem_cons.mpr ⟨⟨RX2, TX2, 7, _, rfl, in_X2, by decide, q255⟩, fun _ h => by cases h⟩
theorem pfX18_15 : ∀ q ∈ ([(1, 4)] : List (Nat × Nat)), PN RX18 15 .int q := List.forall_mem_cons.mpr ⟨⟨RX2, TX2, 7, _, tyX2, rfl, in_X2, by decide, q248, tyX2_ok, nmX2, rfl, rfl⟩, fun _ h => by cases h⟩
theorem lvX18_190 : GoodIn lw_all (wsV RX18 190 RX18 yX18_run (ws_ yX18_run cX18_run 3 none)) := lw_V q2269 q2271 qs32 q157 q2272
theorem hdX18_190 : yX18_run.cls = RX18 ∧ yX18_run.cls ≠ "java/lang/invoke/MethodHandle" ∧ yX18_run.cls ≠ "java/lang/invoke/VarHandle" ∧ (parseMethodDescriptor yX18_run.desc).map (fun d => d.parameters.length) = some 1 := by decide +kernel
def fX18_all_116 (N : Nat) (κ : Nat → Nat) (r57 : Nat → Int32 → St → Option (Int32 × St)) (x0 : Nat) (x1 : Int32) (σ : St) : Option (Int32 × St) := lt (x1 + 1) fun x1_1 : Int32 => r57 x0 x1_1 σ
def fX18_all_57 (N : Nat) (κ : Nat → Nat) : Nat → Nat → Int32 → St → Option (Int32 × St)
  | 0, _, _, _ => none
  | n + 1, x0, x1, σ => (gR σ x0 [(16, 0)]).bind fun v_2 : Option Nat => (v_2).bind fun a_3 : Nat => (gR σ a_3 [(1, 6)]).bind fun v_4 : Option Nat => (v_4).bind fun a_5 : Nat => (isC σ a_5 21).bind fun u_6 : Unit => (fJ2_size σ a_5).bind fun v_7 : Int32 => if v_7 ≤ x1 then (gI σ x0 [(16, 2)]).bind fun v_9 : Int32 => some (v_9, σ) else (gR σ x0 [(16, 0)]).bind fun v_10 : Option Nat => (v_10).bind fun a_11 : Nat => (gR σ a_11 [(1, 6)]).bind fun v_12 : Option Nat => (v_12).bind fun a_13 : Nat => (isC σ a_13 21).bind fun u_14 : Unit => (fJ2_get σ a_13 x1).bind fun v_15 : Option Nat => (v_15).bind fun a_17 : Nat => (isC σ a_17 14).bind fun u_18 : Unit => (gI σ a_17 [(14, 8)]).bind fun v_19 : Int32 => if v_19 = 0 then (gR σ a_17 [(14, 14)]).bind fun v_20 : Option Nat => (v_20).bind fun a_21 : Nat => (gI σ a_21 [(15, 4)]).bind fun v_22 : Int32 => (gI σ x0 [(16, 1)]).bind fun v_23 : Int32 => if v_23 ≤ v_22 then fX18_all_116 N κ (fX18_all_57 N κ n) x0 x1 σ else (pV σ a_17 [(14, 8)] (.int (4 : Int32))).bind fun σ_24 : St => fX18_all_116 N κ (fX18_all_57 N κ n) x0 x1 σ_24 else fX18_all_116 N κ (fX18_all_57 N κ n) x0 x1 σ
def fX18_all_2 (N : Nat) (κ : Nat → Nat) : Nat → Nat → Int32 → St → Option (Int32 × St)
  | 0, _, _, _ => none
  | n + 1, x0, x1, σ => (gR σ x0 [(16, 0)]).bind fun v_25 : Option Nat => (v_25).bind fun a_26 : Nat => (gR σ a_26 [(1, 5)]).bind fun v_27 : Option Nat => (v_27).bind fun a_28 : Nat => (isC σ a_28 21).bind fun u_29 : Unit => (fJ2_size σ a_28).bind fun v_30 : Int32 => if v_30 ≤ x1 then (gR σ x0 [(16, 0)]).bind fun v_32 : Option Nat => (gI σ x0 [(16, 1)]).bind fun v_33 : Int32 => (v_32).bind fun a_34 : Nat => (pV σ a_34 [(1, 4)] (.int v_33)).bind fun σ_35 : St => fX18_all_57 N κ N x0 (0 : Int32) σ_35 else (gR σ x0 [(16, 0)]).bind fun v_36 : Option Nat => (v_36).bind fun a_37 : Nat => (gR σ a_37 [(1, 5)]).bind fun v_38 : Option Nat => (v_38).bind fun a_39 : Nat => (isC σ a_39 21).bind fun u_40 : Unit => (fJ2_get σ a_39 x1).bind fun v_41 : Option Nat => (v_41).bind fun a_43 : Nat => (isC σ a_43 10).bind fun u_44 : Unit => (isC σ x0 16).bind fun u_45 : Unit => (fX18_run N κ σ x0 a_43).bind fun σ_47 : St => lt (x1 + 1) fun x1_48 : Int32 => fX18_all_2 N κ n x0 x1_48 σ_47
def fX18_all (N : Nat) (κ : Nat → Nat) (σ : St) (x0 : Nat) : Option (Int32 × St) := fX18_all_2 N κ N x0 (0 : Int32) σ
theorem wX18_all_116 {E : EV} {l : Launch} {p : Program} {e : Env} {s : State} {m : MethodId} {args : Array Value} {below : List Frame} {meth : Method} {c : Code} {R : Room} {res : (Int32 × St)} (hX : XK E) (hR : 10 ≤ R.frames ∧ 238 ≤ R.locals) (X : MX E p s m args meth c cX18_all 3 (some .int) RX18 "all") (N : Nat) (r57 : Nat → Int32 → St → Option (Int32 × St)) (hr57 : ∀ (x0 : Nat) (x1 : Int32) (σ : St) (H : Heap) (locs : List Loc) (cells slots : Nat) (ls : Array Slot), WI E R s σ H locs cells slots → lv_has ls 3 [(0, .ref x0), (1, .int x1)] → r57 x0 x1 σ = some res → W p l e R s m args below meth c H locs cells slots (MQ below (Qd E R.cells R.slots (some (.int res.1)) res.2) args s R.cells R.slots (fr E)) (F0 m 57 ls [])) : ∀ (x0 : Nat) (x1 : Int32) (σ : St) (H : Heap) (locs : List Loc) (cells slots : Nat) (ls : Array Slot), WI E R s σ H locs cells slots → lv_has ls 3 [(0, .ref x0), (1, .int x1)] → fX18_all_116 N E.2.2.2.1 r57 x0 x1 σ = some res → W p l e R s m args below meth c H locs cells slots (MQ below (Qd E R.cells R.slots (some (.int res.1)) res.2) args s R.cells R.slots (fr E)) (F0 m 116 ls []) := by
  intro x0 x1 σ H locs cells slots ls I hl hf
  obtain ⟨⟨hx, hb, hml, hown, hts⟩, -⟩ := id X
  unfold fX18_all_116 at hf
  obtain ⟨x1_1, ex1_1, hf⟩ := ol hf
  refine lv_iinc (v := x1_1) (lv' := [(1, .int x1_1), (0, .ref x0)]) hx hb dX18_all_116 hl (k := 1) rfl ex1_1 (by decide) rfl (fun ls hl => ?_)
  refine lv_goto (tgt := 57) hx hb dX18_all_119 (by decide) ?_
  exact hr57 x0 x1_1 σ _ _ _ _ _ I (lv_sub hl [1, 0] rfl) hf
theorem wX18_all_57 {E : EV} {l : Launch} {p : Program} {e : Env} {s : State} {m : MethodId} {args : Array Value} {below : List Frame} {meth : Method} {c : Code} {R : Room} {res : (Int32 × St)} (hX : XK E) (hR : 10 ≤ R.frames ∧ 238 ≤ R.locals) (X : MX E p s m args meth c cX18_all 3 (some .int) RX18 "all") (N : Nat) : ∀ (n : Nat) (x0 : Nat) (x1 : Int32) (σ : St) (H : Heap) (locs : List Loc) (cells slots : Nat) (ls : Array Slot), WI E R s σ H locs cells slots → lv_has ls 3 [(0, .ref x0), (1, .int x1)] → fX18_all_57 N E.2.2.2.1 n x0 x1 σ = some res → W p l e R s m args below meth c H locs cells slots (MQ below (Qd E R.cells R.slots (some (.int res.1)) res.2) args s R.cells R.slots (fr E)) (F0 m 57 ls []) := by
  intro n
  induction n with
  | zero => intro x0 x1 σ H locs cells slots ls I hl hf; exact nomatch (show none = some res from hf)
  | succ n ih =>
    intro x0 x1 σ H locs cells slots ls I hl hf
    obtain ⟨⟨hx, hb, hml, hown, hts⟩, -⟩ := id X
    rw [fX18_all_57.eq_2] at hf
    refine lv_iload_n hx hb dX18_all_57 rfl (lv_at hl 1 rfl) ?_
    refine lv_aload_n hx hb dX18_all_58 rfl (lv_at hl 0 rfl) ?_
    obtain ⟨v_2, ev_2, hf⟩ := ob hf
    refine g_get X I gfX18_9 (gR_in ev_2) dX18_all_59 ?_
    obtain ⟨a_3, ea_3, hga_3⟩ := ob hf
    have hla_3 := hl
    have Ia_3 := I
    subst ea_3
    have hf := hga_3
    have hl := hla_3
    have I := Ia_3
    obtain ⟨v_4, ev_4, hf⟩ := ob hf
    refine g_getN hX X I gfX18_60 (gR_in ev_4) dX18_all_62 ?_
    obtain ⟨a_5, ea_5, hga_5⟩ := ob hf
    have hla_5 := hl
    have Ia_5 := I
    subst ea_5
    have hf := hga_5
    have hl := hla_5
    have I := Ia_5
    obtain ⟨u_6, eu_6, hf⟩ := ob hf
    obtain ⟨v_7, ev_7, hf⟩ := ob hf
    refine cg_F (vw := (RJ2, TJ2, 3)) (ci := 21) (r := (some (.int v_7))) (σ' := σ) (rs := [.int v_7, .int x1]) (rest := [.int x1]) (As := []) hX X I eu_6 rfl (mJ2_size hX ev_7) lvX18_38_J2 hdX18_38_J2 ⟨Nat.le_trans (Nat.le_of_ble_eq_true rfl) hR.1, Nat.le_trans (Nat.le_of_ble_eq_true rfl) hR.2⟩ rfl hl.1 rfl (Nat.le_of_ble_eq_true rfl) rfl dX18_all_65 (fun H locs cells slots I => ?_)
    refine lv_icmp_ge (tgt := 122) hx hb dX18_all_70 (by decide) (fun c_70 => ?_) (fun c_70 => ?_)
    · have hf := ip c_70 hf
      refine lv_aload_n hx hb dX18_all_122 rfl (lv_at hl 0 rfl) ?_
      obtain ⟨v_9, ev_9, hf⟩ := ob hf
      refine g_get X I gfX18_163 (gI_in ev_9) dX18_all_123 ?_
      cases os hf
      exact r_iret X I dX18_all_126
    · have hf := im c_70 hf
      refine lv_aload_n hx hb dX18_all_73 rfl (lv_at hl 0 rfl) ?_
      obtain ⟨v_10, ev_10, hf⟩ := ob hf
      refine g_get X I gfX18_9 (gR_in ev_10) dX18_all_74 ?_
      obtain ⟨a_11, ea_11, hga_11⟩ := ob hf
      have hla_11 := hl
      have Ia_11 := I
      subst ea_11
      have hf := hga_11
      have hl := hla_11
      have I := Ia_11
      obtain ⟨v_12, ev_12, hf⟩ := ob hf
      refine g_getN hX X I gfX18_60 (gR_in ev_12) dX18_all_77 ?_
      refine lv_iload_n hx hb dX18_all_80 rfl (lv_at hl 1 rfl) ?_
      obtain ⟨a_13, ea_13, hga_13⟩ := ob hf
      have hla_13 := hl
      have Ia_13 := I
      subst ea_13
      have hf := hga_13
      have hl := hla_13
      have I := Ia_13
      obtain ⟨u_14, eu_14, hf⟩ := ob hf
      obtain ⟨v_15, ev_15, hf⟩ := ob hf
      refine cg_F (vw := (RJ2, TJ2, 3)) (ci := 21) (r := (some (va_rf v_15))) (σ' := σ) (rs := [va_rf v_15]) (rest := []) (As := [.int x1]) hX X I eu_14 rfl (mJ2_get hX ev_15) lvX18_63_J2 hdX18_63_J2 ⟨Nat.le_trans (Nat.le_of_ble_eq_true rfl) hR.1, Nat.le_trans (Nat.le_of_ble_eq_true rfl) hR.2⟩ rfl hl.1 rfl (Nat.le_of_ble_eq_true rfl) rfl dX18_all_81 (fun H locs cells slots I => ?_)
      obtain ⟨a_17, ea_17, hga_17⟩ := ob hf
      have hla_17 := hl
      have Ia_17 := I
      subst ea_17
      have hf := hga_17
      have hl := hla_17
      have I := Ia_17
      obtain ⟨u_18, eu_18, hf⟩ := ob hf
      refine g_cast (vw := (RX16, TX16, 15)) X I rfl q2290 eu_18 dX18_all_86 ?_
      refine lv_astore_n (lv' := [(2, .ref a_17), (0, .ref x0), (1, .int x1)]) hx hb dX18_all_89 rfl hl (by decide) rfl (fun ls hl => ?_)
      refine lv_aload_n hx hb dX18_all_90 rfl (lv_at hl 0 rfl) ?_
      obtain ⟨v_19, ev_19, hf⟩ := ob hf
      refine g_getN hX X I gfX18_87 (gI_in ev_19) dX18_all_91 ?_
      refine lv_if_ne (tgt := 116) hx hb dX18_all_94 (by decide) (fun c_94 => ?_) (fun c_94 => ?_)
      · have hf := im c_94 hf
        exact wX18_all_116 hX hR X N (fX18_all_57 N E.2.2.2.1 n) ih x0 x1 σ _ _ _ _ _ I (lv_sub hl [1, 2] rfl) hf
      · have hf := ip c_94 hf
        refine lv_aload_n hx hb dX18_all_97 rfl (lv_at hl 0 rfl) ?_
        obtain ⟨v_20, ev_20, hf⟩ := ob hf
        refine g_getN hX X I gfX18_194 (gR_in ev_20) dX18_all_98 ?_
        obtain ⟨a_21, ea_21, hga_21⟩ := ob hf
        have hla_21 := hl
        have Ia_21 := I
        subst ea_21
        have hf := hga_21
        have hl := hla_21
        have I := Ia_21
        obtain ⟨v_22, ev_22, hf⟩ := ob hf
        refine g_getN hX X I gfX18_198 (gI_in ev_22) dX18_all_101 ?_
        refine lv_aload_n hx hb dX18_all_104 rfl (lv_at hl 1 rfl) ?_
        obtain ⟨v_23, ev_23, hf⟩ := ob hf
        refine g_get X I gfX18_21 (gI_in ev_23) dX18_all_105 ?_
        refine lv_icmp_ge (tgt := 116) hx hb dX18_all_108 (by decide) (fun c_108 => ?_) (fun c_108 => ?_)
        · have hf := ip c_108 hf
          exact wX18_all_116 hX hR X N (fX18_all_57 N E.2.2.2.1 n) ih x0 x1 σ _ _ _ _ _ I (lv_sub hl [1, 2] rfl) hf
        · have hf := im c_108 hf
          refine lv_aload_n hx hb dX18_all_111 rfl (lv_at hl 0 rfl) ?_
          refine lv_iconst (v := 4) hx hb dX18_all_112 (by decide) ?_
          obtain ⟨σ_24, eσ_24, hf⟩ := ob hf
          refine g_putN hX X I pfX18_87 rfl rfl eσ_24 dX18_all_113 (fun H locs I => ?_)
          exact wX18_all_116 hX hR X N (fX18_all_57 N E.2.2.2.1 n) ih x0 x1 σ_24 _ _ _ _ _ I (lv_sub hl [1, 2] rfl) hf
theorem wX18_all_2 {E : EV} {l : Launch} {p : Program} {e : Env} {s : State} {m : MethodId} {args : Array Value} {below : List Frame} {meth : Method} {c : Code} {R : Room} {res : (Int32 × St)} (hX : XK E) (hR : 10 ≤ R.frames ∧ 238 ≤ R.locals) (X : MX E p s m args meth c cX18_all 3 (some .int) RX18 "all") (N : Nat) : ∀ (n : Nat) (x0 : Nat) (x1 : Int32) (σ : St) (H : Heap) (locs : List Loc) (cells slots : Nat) (ls : Array Slot), WI E R s σ H locs cells slots → lv_has ls 3 [(0, .ref x0), (1, .int x1)] → fX18_all_2 N E.2.2.2.1 n x0 x1 σ = some res → W p l e R s m args below meth c H locs cells slots (MQ below (Qd E R.cells R.slots (some (.int res.1)) res.2) args s R.cells R.slots (fr E)) (F0 m 2 ls []) := by
  intro n
  induction n with
  | zero => intro x0 x1 σ H locs cells slots ls I hl hf; exact nomatch (show none = some res from hf)
  | succ n ih =>
    intro x0 x1 σ H locs cells slots ls I hl hf
    obtain ⟨⟨hx, hb, hml, hown, hts⟩, -⟩ := id X
    rw [fX18_all_2.eq_2] at hf
    refine lv_iload_n hx hb dX18_all_2 rfl (lv_at hl 1 rfl) ?_
    refine lv_aload_n hx hb dX18_all_3 rfl (lv_at hl 0 rfl) ?_
    obtain ⟨v_25, ev_25, hf⟩ := ob hf
    refine g_get X I gfX18_9 (gR_in ev_25) dX18_all_4 ?_
    obtain ⟨a_26, ea_26, hga_26⟩ := ob hf
    have hla_26 := hl
    have Ia_26 := I
    subst ea_26
    have hf := hga_26
    have hl := hla_26
    have I := Ia_26
    obtain ⟨v_27, ev_27, hf⟩ := ob hf
    refine g_getN hX X I gfX18_187 (gR_in ev_27) dX18_all_7 ?_
    obtain ⟨a_28, ea_28, hga_28⟩ := ob hf
    have hla_28 := hl
    have Ia_28 := I
    subst ea_28
    have hf := hga_28
    have hl := hla_28
    have I := Ia_28
    obtain ⟨u_29, eu_29, hf⟩ := ob hf
    obtain ⟨v_30, ev_30, hf⟩ := ob hf
    refine cg_F (vw := (RJ2, TJ2, 3)) (ci := 21) (r := (some (.int v_30))) (σ' := σ) (rs := [.int v_30, .int x1]) (rest := [.int x1]) (As := []) hX X I eu_29 rfl (mJ2_size hX ev_30) lvX18_38_J2 hdX18_38_J2 ⟨Nat.le_trans (Nat.le_of_ble_eq_true rfl) hR.1, Nat.le_trans (Nat.le_of_ble_eq_true rfl) hR.2⟩ rfl hl.1 rfl (Nat.le_of_ble_eq_true rfl) rfl dX18_all_10 (fun H locs cells slots I => ?_)
    refine lv_icmp_ge (tgt := 44) hx hb dX18_all_15 (by decide) (fun c_15 => ?_) (fun c_15 => ?_)
    · have hf := ip c_15 hf
      refine lv_aload_n hx hb dX18_all_44 rfl (lv_at hl 0 rfl) ?_
      obtain ⟨v_32, ev_32, hf⟩ := ob hf
      refine g_get X I gfX18_9 (gR_in ev_32) dX18_all_45 ?_
      refine lv_aload_n hx hb dX18_all_48 rfl (lv_at hl 0 rfl) ?_
      obtain ⟨v_33, ev_33, hf⟩ := ob hf
      refine g_get X I gfX18_21 (gI_in ev_33) dX18_all_49 ?_
      obtain ⟨a_34, ea_34, hga_34⟩ := ob hf
      have hla_34 := hl
      have Ia_34 := I
      subst ea_34
      have hf := hga_34
      have hl := hla_34
      have I := Ia_34
      obtain ⟨σ_35, eσ_35, hf⟩ := ob hf
      refine g_putN hX X I pfX18_15 rfl rfl eσ_35 dX18_all_52 (fun H locs I => ?_)
      refine lv_iconst (v := 0) hx hb dX18_all_55 (by decide) ?_
      refine lv_istore_n (lv' := [(1, .int (0 : Int32)), (0, .ref x0)]) hx hb dX18_all_56 rfl hl (by decide) rfl (fun ls hl => ?_)
      exact wX18_all_57 hX hR X N N x0 (0 : Int32) σ_35 _ _ _ _ _ I (lv_sub hl [1, 0] rfl) hf
    · have hf := im c_15 hf
      refine lv_aload_n hx hb dX18_all_18 rfl (lv_at hl 0 rfl) ?_
      refine lv_aload_n hx hb dX18_all_19 rfl (lv_at hl 0 rfl) ?_
      obtain ⟨v_36, ev_36, hf⟩ := ob hf
      refine g_get X I gfX18_9 (gR_in ev_36) dX18_all_20 ?_
      obtain ⟨a_37, ea_37, hga_37⟩ := ob hf
      have hla_37 := hl
      have Ia_37 := I
      subst ea_37
      have hf := hga_37
      have hl := hla_37
      have I := Ia_37
      obtain ⟨v_38, ev_38, hf⟩ := ob hf
      refine g_getN hX X I gfX18_187 (gR_in ev_38) dX18_all_23 ?_
      refine lv_iload_n hx hb dX18_all_26 rfl (lv_at hl 1 rfl) ?_
      obtain ⟨a_39, ea_39, hga_39⟩ := ob hf
      have hla_39 := hl
      have Ia_39 := I
      subst ea_39
      have hf := hga_39
      have hl := hla_39
      have I := Ia_39
      obtain ⟨u_40, eu_40, hf⟩ := ob hf
      obtain ⟨v_41, ev_41, hf⟩ := ob hf
      refine cg_F (vw := (RJ2, TJ2, 3)) (ci := 21) (r := (some (va_rf v_41))) (σ' := σ) (rs := [va_rf v_41, .ref x0]) (rest := [.ref x0]) (As := [.int x1]) hX X I eu_40 rfl (mJ2_get hX ev_41) lvX18_63_J2 hdX18_63_J2 ⟨Nat.le_trans (Nat.le_of_ble_eq_true rfl) hR.1, Nat.le_trans (Nat.le_of_ble_eq_true rfl) hR.2⟩ rfl hl.1 rfl (Nat.le_of_ble_eq_true rfl) rfl dX18_all_27 (fun H locs cells slots I => ?_)
      obtain ⟨a_43, ea_43, hga_43⟩ := ob hf
      have hla_43 := hl
      have Ia_43 := I
      subst ea_43
      have hf := hga_43
      have hl := hla_43
      have I := Ia_43
      obtain ⟨u_44, eu_44, hf⟩ := ob hf
      refine g_cast (vw := (RX12, TX12, 15)) X I rfl q2268 eu_44 dX18_all_32 ?_
      obtain ⟨u_45, eu_45, hf⟩ := ob hf
      obtain ⟨σ_47, ev_46, hf⟩ := ob hf
      refine cg_V (vw := (RX18, TX18, 3)) (ci := 16) (r := none) (σ' := σ_47) (rs := []) (rest := []) (As := [.ref a_43]) X I eu_45 rfl (mX18_run hX ev_46) lvX18_190 hdX18_190 ⟨Nat.le_trans (Nat.le_of_ble_eq_true rfl) hR.1, Nat.le_trans (Nat.le_of_ble_eq_true rfl) hR.2⟩ rfl hl.1 rfl (Nat.le_of_ble_eq_true rfl) rfl dX18_all_35 (fun H locs cells slots I => ?_)
      obtain ⟨x1_48, ex1_48, hf⟩ := ol hf
      refine lv_iinc (v := x1_48) (lv' := [(1, .int x1_48), (0, .ref x0)]) hx hb dX18_all_38 hl (k := 1) rfl ex1_48 (by decide) rfl (fun ls hl => ?_)
      refine lv_goto (tgt := 2) hx hb dX18_all_41 (by decide) ?_
      exact ih x0 x1_48 σ_47 _ _ _ _ _ I (lv_sub hl [1, 0] rfl) hf
theorem wX18_all_0 {E : EV} {l : Launch} {p : Program} {e : Env} {s : State} {m : MethodId} {args : Array Value} {below : List Frame} {meth : Method} {c : Code} {R : Room} {res : (Int32 × St)} (hX : XK E) (hR : 10 ≤ R.frames ∧ 238 ≤ R.locals) (X : MX E p s m args meth c cX18_all 3 (some .int) RX18 "all") (N : Nat) : ∀ (x0 : Nat) (σ : St) (H : Heap) (locs : List Loc) (cells slots : Nat) (ls : Array Slot), WI E R s σ H locs cells slots → lv_has ls 3 [(0, .ref x0)] → fX18_all N E.2.2.2.1 σ x0 = some res → W p l e R s m args below meth c H locs cells slots (MQ below (Qd E R.cells R.slots (some (.int res.1)) res.2) args s R.cells R.slots (fr E)) (F0 m 0 ls []) := by
  intro x0 σ H locs cells slots ls I hl hf
  obtain ⟨⟨hx, hb, hml, hown, hts⟩, -⟩ := id X
  unfold fX18_all at hf
  refine lv_iconst (v := 0) hx hb dX18_all_0 (by decide) ?_
  refine lv_istore_n (lv' := [(1, .int (0 : Int32)), (0, .ref x0)]) hx hb dX18_all_1 rfl hl (by decide) rfl (fun ls hl => ?_)
  exact wX18_all_2 hX hR X N N x0 (0 : Int32) σ _ _ _ _ _ I (lv_sub hl [1, 0] rfl) hf
theorem mX18_all {E : EV} {l : Launch} {N : Nat} {σ : St} {x0 : Nat} {res : (Int32 × St)} (hX : XK E) (hf : fX18_all N E.2.2.2.1 σ x0 = some res) : CM E l yX18_all (ws_ yX18_all cX18_all 3 (some .int)) 10 238 [.ref x0] σ (some (.int res.1)) res.2 := by
  refine CM.of hX.1 (by decide) rfl rfl (Nat.le_of_ble_eq_true rfl) ?_
  intro p e s m below meth c X I ls hl
  exact wX18_all_0 hX ⟨Nat.le_refl _, Nat.le_refl _⟩ X N _ _ _ _ _ _ _ I hl hf
/-! SharedTaxis.advance(I)I imp=True fuel=True kap=True rt=I thr=True -/
theorem noX1_453 : NO RX1 453 16 3 [.null, .int 0, .int 0] := ⟨RX18, TX18, tyX18, rfl, in_X18, tyX18_ok, by decide, q2244, q2245, q157⟩
theorem lvX1_455 : GoodIn lw_all (ws_ yX18_init cX18_init 3 none) ∧ Cond.initialized yX18_init.cls ∈ lw_all ∧ Cond.methodLink RX1 455 yX18_init ∈ lw_all ∧ Cond.instanceMethod yX18_init ∈ lw_all ∧ yX18_init.name = "<init>" := ⟨lw_meth q2248, q157, q2246, q2247, rfl⟩
theorem hdX1_455 : yX18_init.cls ≠ "java/lang/invoke/MethodHandle" ∧ yX18_init.cls ≠ "java/lang/invoke/VarHandle" ∧ (parseMethodDescriptor yX18_init.desc).map (fun d => d.parameters.length) = some 2 := by decide +kernel
theorem lvX1_458 : GoodIn lw_all (wsV RX1 458 RX18 yX18_all (ws_ yX18_all cX18_all 3 (some .int))) := lw_V q2260 q2261 q2262 q157 q2263
theorem hdX1_458 : yX18_all.cls = RX18 ∧ yX18_all.cls ≠ "java/lang/invoke/MethodHandle" ∧ yX18_all.cls ≠ "java/lang/invoke/VarHandle" ∧ (parseMethodDescriptor yX18_all.desc).map (fun d => d.parameters.length) = some 0 := by decide +kernel
def fX1_advance (N : Nat) (κ : Nat → Nat) (σ : St) (x0 : Nat) (x1 : Int32) : Option ((Int32 ⊕ Nat) × St) := (fX1_inRange σ (x1.toInt64) (1 : Int64) (1440 : Int64)).bind fun v_1 : Int32 => (fX1_require σ v_1).bind fun (v_3, σ_4) => se v_3 (fun v_5 => (gR σ_4 x0 [(0, 3)]).bind fun v_7 : Option Nat => (v_7).bind fun a_8 : Nat => (gI σ_4 a_8 [(1, 4)]).bind fun v_9 : Int32 => if (v_9 + x1) ≤ (9999 : Int32) then (nH σ_4 3 (.inr (16, [.null, .int 0, .int 0]))).bind fun (q_10a, q_10s) => (isC q_10s x0 0).bind fun u_11 : Unit => (fX1_beginOperation N κ q_10s x0).bind fun (v_12, σ_13) => (v_12).bind fun a_14 : Nat => (fX18_init σ_13 q_10a a_14 x1).bind fun σ_16 : St => (isC σ_16 q_10a 16).bind fun u_17 : Unit => (fX18_all N κ σ_16 q_10a).bind fun (v_18, σ_19) => some (.inl v_18, σ_19) else some (.inl (-2 : Int32), σ_4)) (fun q_6 => (isX σ_4 q_6).bind fun uq_6 : Unit => some (.inr q_6, σ_4))
theorem wX1_advance_0 {E : EV} {l : Launch} {p : Program} {e : Env} {s : State} {m : MethodId} {args : Array Value} {below : List Frame} {meth : Method} {c : Code} {R : Room} {res : ((Int32 ⊕ Nat) × St)} (hX : XK E) (hR : 11 ≤ R.frames ∧ 260 ≤ R.locals) (X : MX E p s m args meth c cX1_advance 2 (some .int) RX1 "advance") (XH : MH c []) (hS : l.stackTraces = false) (N : Nat) : ∀ (x0 : Nat) (x1 : Int32) (σ : St) (H : Heap) (locs : List Loc) (cells slots : Nat) (ls : Array Slot), WI E R s σ H locs cells slots → lv_has ls 2 [(0, .ref x0), (1, .int x1)] → fX1_advance N E.2.2.2.1 σ x0 x1 = some res → W p l e R s m args below meth c H locs cells slots (vx_MQ below (QS E R.cells R.slots (sv (fun v => (some (.int v))) res.1) res.2) (XS E R.cells R.slots (sx res.1) res.2) args s R.cells R.slots (fr E)) (F0 m 0 ls []) := by
  intro x0 x1 σ H locs cells slots ls I hl hf
  obtain ⟨⟨hx, hb, hml, hown, hts⟩, -⟩ := id X
  unfold fX1_advance at hf
  refine lv_iload_n hx hb dX1_advance_0 rfl (lv_at hl 1 rfl) ?_
  refine lv_i2l hx hb dX1_advance_1 rfl ?_
  refine lv_lconst (v := 1) hx hb dX1_advance_2 (by decide) ?_
  refine lv_ldc2 (v := 1440) hx hb hown (hts _ q2243) dX1_advance_3 ?_
  obtain ⟨v_1, ev_1, hf⟩ := ob hf
  refine cg_S (r := (some (.int v_1))) (σ' := σ) (rs := [.int v_1]) (rest := []) (As := [.long (x1.toInt64), .long (1 : Int64), .long (1440 : Int64)]) X I (mX1_inRange hX ev_1) lvX1_125 hdX1_125 ⟨Nat.le_trans (Nat.le_of_ble_eq_true rfl) hR.1, Nat.le_trans (Nat.le_of_ble_eq_true rfl) hR.2⟩ rfl hl.1 rfl (Nat.le_of_ble_eq_true rfl) rfl dX1_advance_6 (fun H locs cells slots I => ?_)
  obtain ⟨⟨v_3, σ_4⟩, ev_3, hf⟩ := ob hf
  have hgv_3 := hf
  rcases v_3 with v_5 | q_6
  · have hf := se_l hgv_3
    refine cx_ret (r := none) (rs := []) I (xr_S (σ' := σ_4) (rest := []) (As := [.int v_1]) X I (mX1_require hX hS ev_3) lvX1_158 hdX1_158 ⟨Nat.le_trans (Nat.le_of_ble_eq_true rfl) hR.1, Nat.le_trans (Nat.le_of_ble_eq_true rfl) hR.2⟩ rfl hl.1 rfl (Nat.le_of_ble_eq_true rfl) dX1_advance_9) rfl (fun H locs cells slots I => ?_)
    refine lv_aload_n hx hb dX1_advance_12 rfl (lv_at hl 0 rfl) ?_
    obtain ⟨v_7, ev_7, hf⟩ := ob hf
    refine g_get X I gfX1_87 (gR_in ev_7) dX1_advance_13 ?_
    obtain ⟨a_8, ea_8, hga_8⟩ := ob hf
    have hla_8 := hl
    have Ia_8 := I
    subst ea_8
    have hf := hga_8
    have hl := hla_8
    have I := Ia_8
    obtain ⟨v_9, ev_9, hf⟩ := ob hf
    refine g_getN hX X I gfX1_209 (gI_in ev_9) dX1_advance_16 ?_
    refine lv_iload_n hx hb dX1_advance_19 rfl (lv_at hl 1 rfl) ?_
    refine lv_iadd hx hb dX1_advance_20 ?_
    refine lv_sipush (v := 9999) hx hb dX1_advance_21 (by decide) ?_
    refine lv_icmp_le (tgt := 30) hx hb dX1_advance_24 (by decide) (fun c_24 => ?_) (fun c_24 => ?_)
    · have hf := ip c_24 hf
      obtain ⟨⟨q_10a, q_10s⟩, eq_10, hf⟩ := ob hf
      refine g_new X I noX1_453 eq_10 dX1_advance_30 (fun H locs cells slots I => ?_)
      refine lv_dup hx hb dX1_advance_33 rfl ?_
      refine lv_aload_n hx hb dX1_advance_34 rfl (lv_at hl 0 rfl) ?_
      obtain ⟨u_11, eu_11, hf⟩ := ob hf
      obtain ⟨⟨v_12, σ_13⟩, ev_12, hf⟩ := ob hf
      refine cg_V (vw := (RX1, TX1, 7)) (ci := 0) (r := (some (va_rf v_12))) (σ' := σ_13) (rs := [va_rf v_12, .ref q_10a, .ref q_10a]) (rest := [.ref q_10a, .ref q_10a]) (As := []) X I eu_11 rfl (mX1_beginOperation hX ev_12) lvX1_431 hdX1_431 ⟨Nat.le_trans (Nat.le_of_ble_eq_true rfl) hR.1, Nat.le_trans (Nat.le_of_ble_eq_true rfl) hR.2⟩ rfl hl.1 rfl (Nat.le_of_ble_eq_true rfl) rfl dX1_advance_35 (fun H locs cells slots I => ?_)
      refine lv_iload_n hx hb dX1_advance_38 rfl (lv_at hl 1 rfl) ?_
      obtain ⟨a_14, ea_14, hga_14⟩ := ob hf
      have hla_14 := hl
      have Ia_14 := I
      subst ea_14
      have hf := hga_14
      have hl := hla_14
      have I := Ia_14
      obtain ⟨σ_16, ev_15, hf⟩ := ob hf
      refine cm_I (σ' := σ_16) (rs := [.ref q_10a]) (rest := [.ref q_10a]) (As := [.ref a_14, .int x1]) X I (mX18_init hX ev_15) lvX1_455 hdX1_455 ⟨Nat.le_trans (Nat.le_of_ble_eq_true rfl) hR.1, Nat.le_trans (Nat.le_of_ble_eq_true rfl) hR.2⟩ rfl hl.1 rfl (Nat.le_of_ble_eq_true rfl) rfl dX1_advance_39 (fun H locs cells slots I => ?_)
      obtain ⟨u_17, eu_17, hf⟩ := ob hf
      obtain ⟨⟨v_18, σ_19⟩, ev_18, hf⟩ := ob hf
      refine cg_V (vw := (RX18, TX18, 3)) (ci := 16) (r := (some (.int v_18))) (σ' := σ_19) (rs := [.int v_18]) (rest := []) (As := []) X I eu_17 rfl (mX18_all hX ev_18) lvX1_458 hdX1_458 ⟨Nat.le_trans (Nat.le_of_ble_eq_true rfl) hR.1, Nat.le_trans (Nat.le_of_ble_eq_true rfl) hR.2⟩ rfl hl.1 rfl (Nat.le_of_ble_eq_true rfl) rfl dX1_advance_42 (fun H locs cells slots I => ?_)
      cases os hf
      exact x_ret (r_iret X I dX1_advance_45)
    · have hf := im c_24 hf
      refine lv_bipush (v := (-2)) hx hb dX1_advance_27 (by decide) ?_
      cases os hf
      exact x_ret (r_iret X I dX1_advance_29)
  · have hf := se_r hgv_3
    obtain ⟨uq_6, eq_6, hf⟩ := ob hf
    cases os hf
    refine cx_thr I (xr_S (σ' := σ_4) (rest := []) (As := [.int v_1]) X I (mX1_require hX hS ev_3) lvX1_158 hdX1_158 ⟨Nat.le_trans (Nat.le_of_ble_eq_true rfl) hR.1, Nat.le_trans (Nat.le_of_ble_eq_true rfl) hR.2⟩ rfl hl.1 rfl (Nat.le_of_ble_eq_true rfl) dX1_advance_9) (fun H locs cells slots I => ?_)
    exact x_out X XH rfl I eq_6
theorem mX1_advance {E : EV} {l : Launch} {N : Nat} {σ : St} {x0 : Nat} {x1 : Int32} {res : ((Int32 ⊕ Nat) × St)} (hX : XK E) (hS : l.stackTraces = false) (hf : fX1_advance N E.2.2.2.1 σ x0 x1 = some res) : CX E l yX1_advance (ws_ yX1_advance cX1_advance 2 (some .int)) 11 260 [.ref x0, .int x1] σ (sv (fun v => (some (.int v))) res.1) (sx res.1) res.2 := by
  refine CX.of hX.1 (by decide) rfl rfl (Nat.le_of_ble_eq_true rfl) ?_
  intro p e s m below meth c X XH I ls hl
  exact wX1_advance_0 hX ⟨Nat.le_refl _, Nat.le_refl _⟩ X XH hS N _ _ _ _ _ _ _ _ I hl hf
/-! SharedTaxisLaw.advance(LSharedTaxis;I[J)I imp=True fuel=True kap=True rt=I thr=False -/
theorem lvX0_78 : GoodIn lw_all (wsV RX0 78 RX1 yX1_advance (ws_ yX1_advance cX1_advance 2 (some .int))) := lw_V q2239 q2240 q2241 q113 q2242
theorem hdX0_78 : yX1_advance.cls = RX1 ∧ yX1_advance.cls ≠ "java/lang/invoke/MethodHandle" ∧ yX1_advance.cls ≠ "java/lang/invoke/VarHandle" ∧ (parseMethodDescriptor yX1_advance.desc).map (fun d => d.parameters.length) = some 1 := by decide +kernel
def fX0_advance (N : Nat) (κ : Nat → Nat) (σ : St) (x0 : Nat) (x1 : Int32) (x2 : Nat) : Option (Int32 × St) := (isC σ x0 0).bind fun u_1 : Unit => (fX1_advance N κ σ x0 x1).bind fun (v_2, σ_3) => se v_2 (fun v_4 => (sJ σ_3 x2 (0 : Int32) (v_4.toInt64)).bind fun σ_6 : St => some ((0 : Int32), σ_6)) (fun q_5 => (clsX σ_3 q_5).bind fun c_7 : Nat => if c_7 = 35 then some ((1 : Int32), σ_3) else none)
theorem wX0_advance_0 {E : EV} {l : Launch} {p : Program} {e : Env} {s : State} {m : MethodId} {args : Array Value} {below : List Frame} {meth : Method} {c : Code} {R : Room} {res : (Int32 × St)} (hX : XK E) (hR : 12 ≤ R.frames ∧ 281 ≤ R.locals) (X : MX E p s m args meth c cX0_advance 4 (some .int) RX0 "advance") (XH : MH c [(0, 9, 12, 13)]) (hS : l.stackTraces = false) (N : Nat) : ∀ (x0 : Nat) (x1 : Int32) (x2 : Nat) (σ : St) (H : Heap) (locs : List Loc) (cells slots : Nat) (ls : Array Slot), WI E R s σ H locs cells slots → lv_has ls 4 [(0, .ref x0), (1, .int x1), (2, .ref x2)] → fX0_advance N E.2.2.2.1 σ x0 x1 x2 = some res → W p l e R s m args below meth c H locs cells slots (vx_MQ below (QS E R.cells R.slots (some (some (.int res.1))) res.2) (XS E R.cells R.slots none res.2) args s R.cells R.slots (fr E)) (F0 m 0 ls []) := by
  intro x0 x1 x2 σ H locs cells slots ls I hl hf
  obtain ⟨⟨hx, hb, hml, hown, hts⟩, -⟩ := id X
  unfold fX0_advance at hf
  refine lv_aload_n hx hb dX0_advance_0 rfl (lv_at hl 2 rfl) ?_
  refine lv_iconst (v := 0) hx hb dX0_advance_1 (by decide) ?_
  refine lv_aload_n hx hb dX0_advance_2 rfl (lv_at hl 0 rfl) ?_
  refine lv_iload_n hx hb dX0_advance_3 rfl (lv_at hl 1 rfl) ?_
  obtain ⟨u_1, eu_1, hf⟩ := ob hf
  obtain ⟨⟨v_2, σ_3⟩, ev_2, hf⟩ := ob hf
  have hgv_2 := hf
  rcases v_2 with v_4 | q_5
  · have hf := se_l hgv_2
    refine cx_ret (r := (some (.int v_4))) (rs := [.int v_4, .int (0 : Int32), .ref x2]) I (xr_V (vw := (RX1, TX1, 7)) (ci := 0) (σ' := σ_3) (rest := [.int (0 : Int32), .ref x2]) (As := [.int x1]) X I eu_1 rfl (mX1_advance hX hS ev_2) lvX0_78 hdX0_78 ⟨Nat.le_trans (Nat.le_of_ble_eq_true rfl) hR.1, Nat.le_trans (Nat.le_of_ble_eq_true rfl) hR.2⟩ rfl hl.1 rfl (Nat.le_of_ble_eq_true rfl) dX0_advance_4) rfl (fun H locs cells slots I => ?_)
    refine lv_i2l hx hb dX0_advance_7 rfl ?_
    obtain ⟨σ_6, eσ_6, hf⟩ := ob hf
    refine g_last X I eσ_6 dX0_advance_8 (fun H locs I => ?_)
    refine lv_goto (tgt := 15) hx hb dX0_advance_9 (by decide) ?_
    refine lv_iconst (v := 0) hx hb dX0_advance_15 (by decide) ?_
    cases os hf
    exact x_ret (r_iret X I dX0_advance_16)
  · have hf := se_r hgv_2
    obtain ⟨c_7, ec_7, hf⟩ := ob hf
    refine cx_thr I (xr_V (vw := (RX1, TX1, 7)) (ci := 0) (σ' := σ_3) (rest := [.int (0 : Int32), .ref x2]) (As := [.int x1]) X I eu_1 rfl (mX1_advance hX hS ev_2) lvX0_78 hdX0_78 ⟨Nat.le_trans (Nat.le_of_ble_eq_true rfl) hR.1, Nat.le_trans (Nat.le_of_ble_eq_true rfl) hR.2⟩ rfl hl.1 rfl (Nat.le_of_ble_eq_true rfl) dX0_advance_4) (fun H locs cells slots I => ?_)
    by_cases cc_7_E7 : c_7 = 35
    · have hf := ip cc_7_E7 hf
      refine x_catch (vw := (RJ7, TJ7, 0)) hX X XH I (cc_7_E7 ▸ ec_7) rfl ((tableOf [(0, 9, 12, 13)]).take 0) _ _ rfl (fun z hz => nomatch hz) rfl (by decide) q1197 q723 ?_
      refine lv_astore_n (lv' := [(3, .ref q_5), (0, .ref x0), (1, .int x1), (2, .ref x2)]) hx hb dX0_advance_12 rfl hl (by decide) rfl (fun ls hl => ?_)
      refine lv_iconst (v := 1) hx hb dX0_advance_13 (by decide) ?_
      cases os hf
      exact x_ret (r_iret X I dX0_advance_14)
    · have hf := im cc_7_E7 hf
      exact nomatch hf
theorem mX0_advance {E : EV} {l : Launch} {N : Nat} {σ : St} {x0 : Nat} {x1 : Int32} {x2 : Nat} {res : (Int32 × St)} (hX : XK E) (hS : l.stackTraces = false) (hf : fX0_advance N E.2.2.2.1 σ x0 x1 x2 = some res) : CX E l yX0_advance (wsW_ yX0_advance cX0_advance 4 (some .int) [(0, 9, 12, 13)]) 12 281 [.ref x0, .int x1, .ref x2] σ (some (some (.int res.1))) none res.2 := by
  refine CX.ofH hX.1 (by decide) rfl rfl (Nat.le_of_ble_eq_true rfl) ?_
  intro p e s m below meth c X XH I ls hl
  exact wX0_advance_0 hX ⟨Nat.le_refl _, Nat.le_refl _⟩ X XH hS N _ _ _ _ _ _ _ _ _ I hl hf
/-! java/lang/Math.addExact(II)I imp=True fuel=False kap=True rt=I thr=True -/
def fJ13_addExact (κ : Nat → Nat) (σ : St) (x0 : Int32) (x1 : Int32) : Option ((Int32 ⊕ Nat) × St) := lt (x0 + x1) fun x2_1 : Int32 => if 0 ≤ ((x0 ^^^ x2_1) &&& (x1 ^^^ x2_1)) then some (.inl x2_1, σ) else (nH σ 6 (.inr (36, []))).bind fun (q_2a, q_2s) => (isX q_2s q_2a).bind fun u_3 : Unit => some (.inr q_2a, q_2s)
theorem wJ13_addExact_0 {E : EV} {l : Launch} {p : Program} {e : Env} {s : State} {m : MethodId} {args : Array Value} {below : List Frame} {meth : Method} {c : Code} {R : Room} {res : ((Int32 ⊕ Nat) × St)} (hX : XK E) (hR : 6 ≤ R.frames ∧ 99 ≤ R.locals) (X : MX E p s m args meth c cJ13_addExact 3 (some .int) RJ13 "addExact") (XH : MH c []) (hS : l.stackTraces = false) : ∀ (x0 : Int32) (x1 : Int32) (σ : St) (H : Heap) (locs : List Loc) (cells slots : Nat) (ls : Array Slot), WI E R s σ H locs cells slots → lv_has ls 3 [(0, .int x0), (1, .int x1)] → fJ13_addExact E.2.2.2.1 σ x0 x1 = some res → W p l e R s m args below meth c H locs cells slots (vx_MQ below (QS E R.cells R.slots (sv (fun v => (some (.int v))) res.1) res.2) (XS E R.cells R.slots (sx res.1) res.2) args s R.cells R.slots (fr E)) (F0 m 0 ls []) := by
  intro x0 x1 σ H locs cells slots ls I hl hf
  obtain ⟨⟨hx, hb, hml, hown, hts⟩, -⟩ := id X
  unfold fJ13_addExact at hf
  refine lv_iload_n hx hb dJ13_addExact_0 rfl (lv_at hl 0 rfl) ?_
  refine lv_iload_n hx hb dJ13_addExact_1 rfl (lv_at hl 1 rfl) ?_
  refine lv_iadd hx hb dJ13_addExact_2 ?_
  obtain ⟨x2_1, ex2_1, hf⟩ := ol hf
  refine nm_i ex2_1 ?_
  refine lv_istore_n (lv' := [(2, .int x2_1), (0, .int x0), (1, .int x1)]) hx hb dJ13_addExact_3 rfl hl (by decide) rfl (fun ls hl => ?_)
  refine lv_iload_n hx hb dJ13_addExact_4 rfl (lv_at hl 1 rfl) ?_
  refine lv_iload_n hx hb dJ13_addExact_5 rfl (lv_at hl 0 rfl) ?_
  refine lv_ixor hx hb dJ13_addExact_6 ?_
  refine lv_iload_n hx hb dJ13_addExact_7 rfl (lv_at hl 2 rfl) ?_
  refine lv_iload_n hx hb dJ13_addExact_8 rfl (lv_at hl 0 rfl) ?_
  refine lv_ixor hx hb dJ13_addExact_9 ?_
  refine lv_iand hx hb dJ13_addExact_10 ?_
  refine lv_if_ge (tgt := 24) hx hb dJ13_addExact_11 (by decide) (fun c_11 => ?_) (fun c_11 => ?_)
  · have hf := ip c_11 hf
    refine lv_iload_n hx hb dJ13_addExact_24 rfl (lv_at hl 0 rfl) ?_
    cases os hf
    exact x_ret (r_iret X I dJ13_addExact_25)
  · have hf := im c_11 hf
    obtain ⟨⟨q_2a, q_2s⟩, eq_2, hf⟩ := ob hf
    refine x_makeS (cls := RJ25) (names := xnm) (ik := 109) (ic := 113) (is := 111) (tx := "integer overflow") (k := 136) hX hS X I (List.mem_of_getElem? (i := 36) rfl) rfl (by decide) xnm_fit q2337 q158 xat_E25 eq_2 hl.1 ⟨Nat.le_trans (Nat.le_of_ble_eq_true rfl) hR.1, Nat.le_trans (Nat.le_of_ble_eq_true rfl) hR.2⟩ (Nat.le_of_ble_eq_true rfl) dJ13_addExact_14 dJ13_addExact_17 dJ13_addExact_18 dJ13_addExact_20 (fun H locs cells slots I => ?_)
    obtain ⟨u_3, eu_3, hf⟩ := ob hf
    cases os hf
    exact x_athrow X XH rfl I eu_3 dJ13_addExact_23
theorem mJ13_addExact {E : EV} {l : Launch} {σ : St} {x0 : Int32} {x1 : Int32} {res : ((Int32 ⊕ Nat) × St)} (hX : XK E) (hS : l.stackTraces = false) (hf : fJ13_addExact E.2.2.2.1 σ x0 x1 = some res) : CX E l yJ13_addExact (ws_ yJ13_addExact cJ13_addExact 3 (some .int)) 6 99 [.int x0, .int x1] σ (sv (fun v => (some (.int v))) res.1) (sx res.1) res.2 := by
  refine CX.ofF hX.1 (by decide +kernel) rfl rfl (Nat.le_of_ble_eq_true rfl) ?_
  intro p e s m below meth c X XH I ls hl
  exact wJ13_addExact_0 hX ⟨Nat.le_refl _, Nat.le_refl _⟩ X XH hS _ _ _ _ _ _ _ _ I hl hf
/-! SharedTaxis.tip(II)I imp=True fuel=True kap=True rt=I thr=True -/
theorem gfX1_463 : ∀ q ∈ ([(10, 9)] : List (Nat × Nat)), GN RX1 463 q := List.forall_mem_cons.mpr ⟨⟨RX12, TX12, 15, _, rfl, in_X12, by decide, q942⟩, fun _ h => by cases h⟩
theorem lvX1_466 : GoodIn lw_all (va_wsS RX1 466 yJ13_addExact (ws_ yJ13_addExact cJ13_addExact 3 (some .int))) := lw_S q2334 q2335 q132 q2336
theorem hdX1_466 : yJ13_addExact.cls ≠ "java/lang/invoke/MethodHandle" ∧ yJ13_addExact.cls ≠ "java/lang/invoke/VarHandle" ∧ (parseMethodDescriptor yJ13_addExact.desc).map (fun d => d.parameters.length) = some 2 := by decide +kernel
theorem pfX1_463 : ∀ q ∈ ([(10, 9)] : List (Nat × Nat)), PN RX1 463 .int q := List.forall_mem_cons.mpr ⟨⟨RX12, TX12, 15, _, tyX12, rfl, in_X12, by decide, q942, tyX12_ok, nmX12, rfl, rfl⟩, fun _ h => by cases h⟩
theorem gfX1_474 : ∀ q ∈ ([(10, 10)] : List (Nat × Nat)), GN RX1 474 q := List.forall_mem_cons.mpr ⟨⟨RX12, TX12, 15, _, rfl, in_X12, by decide, q944⟩, fun _ h => by cases h⟩
theorem pfX1_474 : ∀ q ∈ ([(10, 10)] : List (Nat × Nat)), PN RX1 474 .int q := List.forall_mem_cons.mpr ⟨⟨RX12, TX12, 15, _, tyX12, rfl, in_X12, by decide, q944, tyX12_ok, nmX12, rfl, rfl⟩, fun _ h => by cases h⟩
def fX1_tip (N : Nat) (κ : Nat → Nat) (σ : St) (x0 : Nat) (x1 : Int32) (x2 : Int32) : Option ((Int32 ⊕ Nat) × St) := (isC σ x0 0).bind fun u_1 : Unit => (fX1_taxiAt σ x0 x1).bind fun (v_2, σ_3) => se v_2 (fun v_4 => (fX1_inRange σ_3 (x2.toInt64) (1 : Int64) (2000000000 : Int64)).bind fun v_6 : Int32 => (fX1_require σ_3 v_6).bind fun (v_8, σ_9) => se v_8 (fun v_10 => (gI σ_9 v_4 [(10, 9)]).bind fun v_12 : Int32 => (fJ13_addExact κ σ_9 v_12 x2).bind fun (v_13, σ_14) => se v_13 (fun v_15 => if v_15 ≤ (2000000000 : Int32) then (isC σ_14 x0 0).bind fun u_17 : Unit => (fX1_beginOperation N κ σ_14 x0).bind fun (v_18, σ_19) => (pV σ_19 v_4 [(10, 9)] (.int v_15)).bind fun σ_20 : St => (gI σ_20 v_4 [(10, 10)]).bind fun v_21 : Int32 => (pV σ_20 v_4 [(10, 10)] (.int (v_21 + x2))).bind fun σ_22 : St => some (.inl v_15, σ_22) else some (.inl (-5 : Int32), σ_14)) (fun q_16 => (clsX σ_14 q_16).bind fun c_23 : Nat => if c_23 = 36 then some (.inl (-5 : Int32), σ_14) else none)) (fun q_11 => (isX σ_9 q_11).bind fun uq_11 : Unit => some (.inr q_11, σ_9))) (fun q_5 => (isX σ_3 q_5).bind fun uq_5 : Unit => some (.inr q_5, σ_3))
theorem wX1_tip_0 {E : EV} {l : Launch} {p : Program} {e : Env} {s : State} {m : MethodId} {args : Array Value} {below : List Frame} {meth : Method} {c : Code} {R : Room} {res : ((Int32 ⊕ Nat) × St)} (hX : XK E) (hR : 10 ≤ R.frames ∧ 235 ≤ R.locals) (X : MX E p s m args meth c cX1_tip 6 (some .int) RX1 "tip") (XH : MH c [(18, 28, 31, 471)]) (hS : l.stackTraces = false) (N : Nat) : ∀ (x0 : Nat) (x1 : Int32) (x2 : Int32) (σ : St) (H : Heap) (locs : List Loc) (cells slots : Nat) (ls : Array Slot), WI E R s σ H locs cells slots → lv_has ls 6 [(0, .ref x0), (1, .int x1), (2, .int x2)] → fX1_tip N E.2.2.2.1 σ x0 x1 x2 = some res → W p l e R s m args below meth c H locs cells slots (vx_MQ below (QS E R.cells R.slots (sv (fun v => (some (.int v))) res.1) res.2) (XS E R.cells R.slots (sx res.1) res.2) args s R.cells R.slots (fr E)) (F0 m 0 ls []) := by
  intro x0 x1 x2 σ H locs cells slots ls I hl hf
  obtain ⟨⟨hx, hb, hml, hown, hts⟩, -⟩ := id X
  unfold fX1_tip at hf
  refine lv_aload_n hx hb dX1_tip_0 rfl (lv_at hl 0 rfl) ?_
  refine lv_iload_n hx hb dX1_tip_1 rfl (lv_at hl 1 rfl) ?_
  obtain ⟨u_1, eu_1, hf⟩ := ob hf
  obtain ⟨⟨v_2, σ_3⟩, ev_2, hf⟩ := ob hf
  have hgv_2 := hf
  rcases v_2 with v_4 | q_5
  · have hf := se_l hgv_2
    refine cx_ret (r := (some (.ref v_4))) (rs := [.ref v_4]) I (xr_V (vw := (RX1, TX1, 7)) (ci := 0) (σ' := σ_3) (rest := []) (As := [.int x1]) X I eu_1 rfl (mX1_taxiAt hX hS ev_2) lvX1_238 hdX1_238 ⟨Nat.le_trans (Nat.le_of_ble_eq_true rfl) hR.1, Nat.le_trans (Nat.le_of_ble_eq_true rfl) hR.2⟩ rfl hl.1 rfl (Nat.le_of_ble_eq_true rfl) dX1_tip_2) rfl (fun H locs cells slots I => ?_)
    refine lv_astore_n (lv' := [(3, .ref v_4), (0, .ref x0), (1, .int x1), (2, .int x2)]) hx hb dX1_tip_5 rfl hl (by decide) rfl (fun ls hl => ?_)
    refine lv_iload_n hx hb dX1_tip_6 rfl (lv_at hl 3 rfl) ?_
    refine lv_i2l hx hb dX1_tip_7 rfl ?_
    refine lv_lconst (v := 1) hx hb dX1_tip_8 (by decide) ?_
    refine lv_ldc2 (v := 2000000000) hx hb hown (hts _ q2333) dX1_tip_9 ?_
    obtain ⟨v_6, ev_6, hf⟩ := ob hf
    refine cg_S (r := (some (.int v_6))) (σ' := σ_3) (rs := [.int v_6]) (rest := []) (As := [.long (x2.toInt64), .long (1 : Int64), .long (2000000000 : Int64)]) X I (mX1_inRange hX ev_6) lvX1_125 hdX1_125 ⟨Nat.le_trans (Nat.le_of_ble_eq_true rfl) hR.1, Nat.le_trans (Nat.le_of_ble_eq_true rfl) hR.2⟩ rfl hl.1 rfl (Nat.le_of_ble_eq_true rfl) rfl dX1_tip_12 (fun H locs cells slots I => ?_)
    obtain ⟨⟨v_8, σ_9⟩, ev_8, hf⟩ := ob hf
    have hgv_8 := hf
    rcases v_8 with v_10 | q_11
    · have hf := se_l hgv_8
      refine cx_ret (r := none) (rs := []) I (xr_S (σ' := σ_9) (rest := []) (As := [.int v_6]) X I (mX1_require hX hS ev_8) lvX1_158 hdX1_158 ⟨Nat.le_trans (Nat.le_of_ble_eq_true rfl) hR.1, Nat.le_trans (Nat.le_of_ble_eq_true rfl) hR.2⟩ rfl hl.1 rfl (Nat.le_of_ble_eq_true rfl) dX1_tip_15) rfl (fun H locs cells slots I => ?_)
      refine lv_aload_n hx hb dX1_tip_18 rfl (lv_at hl 0 rfl) ?_
      obtain ⟨v_12, ev_12, hf⟩ := ob hf
      refine g_getN hX X I gfX1_463 (gI_in ev_12) dX1_tip_19 ?_
      refine lv_iload_n hx hb dX1_tip_22 rfl (lv_at hl 3 rfl) ?_
      obtain ⟨⟨v_13, σ_14⟩, ev_13, hf⟩ := ob hf
      have hgv_13 := hf
      rcases v_13 with v_15 | q_16
      · have hf := se_l hgv_13
        refine cx_ret (r := (some (.int v_15))) (rs := [.int v_15]) I (xr_S (σ' := σ_14) (rest := []) (As := [.int v_12, .int x2]) X I (mJ13_addExact hX hS ev_13) lvX1_466 hdX1_466 ⟨Nat.le_trans (Nat.le_of_ble_eq_true rfl) hR.1, Nat.le_trans (Nat.le_of_ble_eq_true rfl) hR.2⟩ rfl hl.1 rfl (Nat.le_of_ble_eq_true rfl) dX1_tip_23) rfl (fun H locs cells slots I => ?_)
        refine lv_istore (lv' := [(4, .int v_15), (3, .ref v_4), (0, .ref x0), (1, .int x1), (2, .int x2)]) hx hb dX1_tip_26 hl (by decide) rfl (fun ls hl => ?_)
        refine lv_goto (tgt := 36) hx hb dX1_tip_28 (by decide) ?_
        refine lv_iload hx hb dX1_tip_36 (lv_at hl 0 rfl) ?_
        refine lv_ldcw (v := 2000000000) hx hb hown (hts _ q2340) dX1_tip_38 ?_
        refine lv_icmp_le (tgt := 47) hx hb dX1_tip_41 (by decide) (fun c_41 => ?_) (fun c_41 => ?_)
        · have hf := ip c_41 hf
          refine lv_aload_n hx hb dX1_tip_47 rfl (lv_at hl 2 rfl) ?_
          obtain ⟨u_17, eu_17, hf⟩ := ob hf
          obtain ⟨⟨v_18, σ_19⟩, ev_18, hf⟩ := ob hf
          refine cg_V (vw := (RX1, TX1, 7)) (ci := 0) (r := (some (va_rf v_18))) (σ' := σ_19) (rs := [va_rf v_18]) (rest := []) (As := []) X I eu_17 rfl (mX1_beginOperation hX ev_18) lvX1_431 hdX1_431 ⟨Nat.le_trans (Nat.le_of_ble_eq_true rfl) hR.1, Nat.le_trans (Nat.le_of_ble_eq_true rfl) hR.2⟩ rfl hl.1 rfl (Nat.le_of_ble_eq_true rfl) rfl dX1_tip_48 (fun H locs cells slots I => ?_)
          refine lv_pop hx hb dX1_tip_51 (rf_cat _) ?_
          refine lv_aload_n hx hb dX1_tip_52 rfl (lv_at hl 1 rfl) ?_
          refine lv_iload hx hb dX1_tip_53 (lv_at hl 0 rfl) ?_
          obtain ⟨σ_20, eσ_20, hf⟩ := ob hf
          refine g_putN hX X I pfX1_463 rfl rfl eσ_20 dX1_tip_55 (fun H locs I => ?_)
          refine lv_aload_n hx hb dX1_tip_58 rfl (lv_at hl 1 rfl) ?_
          refine lv_dup hx hb dX1_tip_59 rfl ?_
          obtain ⟨v_21, ev_21, hf⟩ := ob hf
          refine g_getN hX X I gfX1_474 (gI_in ev_21) dX1_tip_60 ?_
          refine lv_iload_n hx hb dX1_tip_63 rfl (lv_at hl 4 rfl) ?_
          refine lv_iadd hx hb dX1_tip_64 ?_
          obtain ⟨σ_22, eσ_22, hf⟩ := ob hf
          refine g_putN hX X I pfX1_474 rfl rfl eσ_22 dX1_tip_65 (fun H locs I => ?_)
          refine lv_iload hx hb dX1_tip_68 (lv_at hl 0 rfl) ?_
          cases os hf
          exact x_ret (r_iret X I dX1_tip_70)
        · have hf := im c_41 hf
          refine lv_bipush (v := (-5)) hx hb dX1_tip_44 (by decide) ?_
          cases os hf
          exact x_ret (r_iret X I dX1_tip_46)
      · have hf := se_r hgv_13
        obtain ⟨c_23, ec_23, hf⟩ := ob hf
        refine cx_thr I (xr_S (σ' := σ_14) (rest := []) (As := [.int v_12, .int x2]) X I (mJ13_addExact hX hS ev_13) lvX1_466 hdX1_466 ⟨Nat.le_trans (Nat.le_of_ble_eq_true rfl) hR.1, Nat.le_trans (Nat.le_of_ble_eq_true rfl) hR.2⟩ rfl hl.1 rfl (Nat.le_of_ble_eq_true rfl) dX1_tip_23) (fun H locs cells slots I => ?_)
        by_cases cc_23_E25 : c_23 = 36
        · have hf := ip cc_23_E25 hf
          refine x_catch (vw := (RJ25, TJ25, 0)) hX X XH I (cc_23_E25 ▸ ec_23) rfl ((tableOf [(18, 28, 31, 471)]).take 0) _ _ rfl (fun z hz => nomatch hz) rfl (by decide) q2319 q2331 ?_
          refine lv_astore (lv' := [(5, .ref q_16), (3, .ref v_4), (0, .ref x0), (1, .int x1), (2, .int x2)]) hx hb dX1_tip_31 hl (by decide) rfl (fun ls hl => ?_)
          refine lv_bipush (v := (-5)) hx hb dX1_tip_33 (by decide) ?_
          cases os hf
          exact x_ret (r_iret X I dX1_tip_35)
        · have hf := im cc_23_E25 hf
          exact nomatch hf
    · have hf := se_r hgv_8
      obtain ⟨uq_11, eq_11, hf⟩ := ob hf
      cases os hf
      refine cx_thr I (xr_S (σ' := σ_9) (rest := []) (As := [.int v_6]) X I (mX1_require hX hS ev_8) lvX1_158 hdX1_158 ⟨Nat.le_trans (Nat.le_of_ble_eq_true rfl) hR.1, Nat.le_trans (Nat.le_of_ble_eq_true rfl) hR.2⟩ rfl hl.1 rfl (Nat.le_of_ble_eq_true rfl) dX1_tip_15) (fun H locs cells slots I => ?_)
      exact x_out X XH rfl I eq_11
  · have hf := se_r hgv_2
    obtain ⟨uq_5, eq_5, hf⟩ := ob hf
    cases os hf
    refine cx_thr I (xr_V (vw := (RX1, TX1, 7)) (ci := 0) (σ' := σ_3) (rest := []) (As := [.int x1]) X I eu_1 rfl (mX1_taxiAt hX hS ev_2) lvX1_238 hdX1_238 ⟨Nat.le_trans (Nat.le_of_ble_eq_true rfl) hR.1, Nat.le_trans (Nat.le_of_ble_eq_true rfl) hR.2⟩ rfl hl.1 rfl (Nat.le_of_ble_eq_true rfl) dX1_tip_2) (fun H locs cells slots I => ?_)
    exact x_out X XH rfl I eq_5
theorem mX1_tip {E : EV} {l : Launch} {N : Nat} {σ : St} {x0 : Nat} {x1 : Int32} {x2 : Int32} {res : ((Int32 ⊕ Nat) × St)} (hX : XK E) (hS : l.stackTraces = false) (hf : fX1_tip N E.2.2.2.1 σ x0 x1 x2 = some res) : CX E l yX1_tip (wsW_ yX1_tip cX1_tip 6 (some .int) [(18, 28, 31, 471)]) 10 235 [.ref x0, .int x1, .int x2] σ (sv (fun v => (some (.int v))) res.1) (sx res.1) res.2 := by
  refine CX.ofH hX.1 (by decide) rfl rfl (Nat.le_of_ble_eq_true rfl) ?_
  intro p e s m below meth c X XH I ls hl
  exact wX1_tip_0 hX ⟨Nat.le_refl _, Nat.le_refl _⟩ X XH hS N _ _ _ _ _ _ _ _ _ I hl hf
/-! SharedTaxisLaw.tip(LSharedTaxis;II[J)I imp=True fuel=True kap=True rt=I thr=False -/
theorem lvX0_81 : GoodIn lw_all (wsV RX0 81 RX1 yX1_tip (wsW_ yX1_tip cX1_tip 6 (some .int) [(18, 28, 31, 471)])) := lw_VW q2315 q2316 q2317 q113 q2318
theorem hdX0_81 : yX1_tip.cls = RX1 ∧ yX1_tip.cls ≠ "java/lang/invoke/MethodHandle" ∧ yX1_tip.cls ≠ "java/lang/invoke/VarHandle" ∧ (parseMethodDescriptor yX1_tip.desc).map (fun d => d.parameters.length) = some 2 := by decide +kernel
def fX0_tip (N : Nat) (κ : Nat → Nat) (σ : St) (x0 : Nat) (x1 : Int32) (x2 : Int32) (x3 : Nat) : Option (Int32 × St) := (isC σ x0 0).bind fun u_1 : Unit => (fX1_tip N κ σ x0 x1 x2).bind fun (v_2, σ_3) => se v_2 (fun v_4 => (sJ σ_3 x3 (0 : Int32) (v_4.toInt64)).bind fun σ_6 : St => some ((0 : Int32), σ_6)) (fun q_5 => (clsX σ_3 q_5).bind fun c_7 : Nat => if c_7 = 34 then some ((1 : Int32), σ_3) else if c_7 = 35 then some ((2 : Int32), σ_3) else none)
theorem wX0_tip_0 {E : EV} {l : Launch} {p : Program} {e : Env} {s : State} {m : MethodId} {args : Array Value} {below : List Frame} {meth : Method} {c : Code} {R : Room} {res : (Int32 × St)} (hX : XK E) (hR : 11 ≤ R.frames ∧ 260 ≤ R.locals) (X : MX E p s m args meth c cX0_tip 5 (some .int) RX0 "tip") (XH : MH c [(0, 10, 13, 18), (0, 10, 17, 13)]) (hS : l.stackTraces = false) (N : Nat) : ∀ (x0 : Nat) (x1 : Int32) (x2 : Int32) (x3 : Nat) (σ : St) (H : Heap) (locs : List Loc) (cells slots : Nat) (ls : Array Slot), WI E R s σ H locs cells slots → lv_has ls 5 [(0, .ref x0), (1, .int x1), (2, .int x2), (3, .ref x3)] → fX0_tip N E.2.2.2.1 σ x0 x1 x2 x3 = some res → W p l e R s m args below meth c H locs cells slots (vx_MQ below (QS E R.cells R.slots (some (some (.int res.1))) res.2) (XS E R.cells R.slots none res.2) args s R.cells R.slots (fr E)) (F0 m 0 ls []) := by
  intro x0 x1 x2 x3 σ H locs cells slots ls I hl hf
  obtain ⟨⟨hx, hb, hml, hown, hts⟩, -⟩ := id X
  unfold fX0_tip at hf
  refine lv_aload_n hx hb dX0_tip_0 rfl (lv_at hl 3 rfl) ?_
  refine lv_iconst (v := 0) hx hb dX0_tip_1 (by decide) ?_
  refine lv_aload_n hx hb dX0_tip_2 rfl (lv_at hl 0 rfl) ?_
  refine lv_iload_n hx hb dX0_tip_3 rfl (lv_at hl 1 rfl) ?_
  refine lv_iload_n hx hb dX0_tip_4 rfl (lv_at hl 2 rfl) ?_
  obtain ⟨u_1, eu_1, hf⟩ := ob hf
  obtain ⟨⟨v_2, σ_3⟩, ev_2, hf⟩ := ob hf
  have hgv_2 := hf
  rcases v_2 with v_4 | q_5
  · have hf := se_l hgv_2
    refine cx_ret (r := (some (.int v_4))) (rs := [.int v_4, .int (0 : Int32), .ref x3]) I (xr_VW (vw := (RX1, TX1, 7)) (ci := 0) (σ' := σ_3) (rest := [.int (0 : Int32), .ref x3]) (As := [.int x1, .int x2]) X I eu_1 rfl (mX1_tip hX hS ev_2) lvX0_81 hdX0_81 ⟨Nat.le_trans (Nat.le_of_ble_eq_true rfl) hR.1, Nat.le_trans (Nat.le_of_ble_eq_true rfl) hR.2⟩ rfl hl.1 rfl (Nat.le_of_ble_eq_true rfl) dX0_tip_5) rfl (fun H locs cells slots I => ?_)
    refine lv_i2l hx hb dX0_tip_8 rfl ?_
    obtain ⟨σ_6, eσ_6, hf⟩ := ob hf
    refine g_last X I eσ_6 dX0_tip_9 (fun H locs I => ?_)
    refine lv_goto (tgt := 21) hx hb dX0_tip_10 (by decide) ?_
    refine lv_iconst (v := 0) hx hb dX0_tip_21 (by decide) ?_
    cases os hf
    exact x_ret (r_iret X I dX0_tip_22)
  · have hf := se_r hgv_2
    obtain ⟨c_7, ec_7, hf⟩ := ob hf
    refine cx_thr I (xr_VW (vw := (RX1, TX1, 7)) (ci := 0) (σ' := σ_3) (rest := [.int (0 : Int32), .ref x3]) (As := [.int x1, .int x2]) X I eu_1 rfl (mX1_tip hX hS ev_2) lvX0_81 hdX0_81 ⟨Nat.le_trans (Nat.le_of_ble_eq_true rfl) hR.1, Nat.le_trans (Nat.le_of_ble_eq_true rfl) hR.2⟩ rfl hl.1 rfl (Nat.le_of_ble_eq_true rfl) dX0_tip_5) (fun H locs cells slots I => ?_)
    by_cases cc_7_E22 : c_7 = 34
    · have hf := ip cc_7_E22 hf
      refine x_catch (vw := (RJ22, TJ22, 0)) hX X XH I (cc_7_E22 ▸ ec_7) rfl ((tableOf [(0, 10, 13, 18), (0, 10, 17, 13)]).take 0) _ _ rfl (fun z hz => nomatch hz) rfl (by decide) q1558 q417 ?_
      refine lv_astore (lv' := [(4, .ref q_5), (0, .ref x0), (1, .int x1), (2, .int x2), (3, .ref x3)]) hx hb dX0_tip_13 hl (by decide) rfl (fun ls hl => ?_)
      refine lv_iconst (v := 1) hx hb dX0_tip_15 (by decide) ?_
      cases os hf
      exact x_ret (r_iret X I dX0_tip_16)
    · have hf := im cc_7_E22 hf
      by_cases cc_7_E7 : c_7 = 35
      · have hf := ip cc_7_E7 hf
        refine x_catch (vw := (RJ7, TJ7, 0)) hX X XH I (cc_7_E7 ▸ ec_7) rfl ((tableOf [(0, 10, 13, 18), (0, 10, 17, 13)]).take 1) _ _ rfl (List.forall_mem_cons.mpr ⟨Or.inr ⟨by decide, _, q1558, List.mem_of_getElem? (i := 0) rfl⟩, (fun z hz => nomatch hz)⟩) rfl (by decide) q1197 q723 ?_
        refine lv_astore (lv' := [(4, .ref q_5), (0, .ref x0), (1, .int x1), (2, .int x2), (3, .ref x3)]) hx hb dX0_tip_17 hl (by decide) rfl (fun ls hl => ?_)
        refine lv_iconst (v := 2) hx hb dX0_tip_19 (by decide) ?_
        cases os hf
        exact x_ret (r_iret X I dX0_tip_20)
      · have hf := im cc_7_E7 hf
        exact nomatch hf
theorem mX0_tip {E : EV} {l : Launch} {N : Nat} {σ : St} {x0 : Nat} {x1 : Int32} {x2 : Int32} {x3 : Nat} {res : (Int32 × St)} (hX : XK E) (hS : l.stackTraces = false) (hf : fX0_tip N E.2.2.2.1 σ x0 x1 x2 x3 = some res) : CX E l yX0_tip (wsW_ yX0_tip cX0_tip 5 (some .int) [(0, 10, 13, 18), (0, 10, 17, 13)]) 11 260 [.ref x0, .int x1, .int x2, .ref x3] σ (some (some (.int res.1))) none res.2 := by
  refine CX.ofH hX.1 (by decide) rfl rfl (Nat.le_of_ble_eq_true rfl) ?_
  intro p e s m below meth c X XH I ls hl
  exact wX0_tip_0 hX ⟨Nat.le_refl _, Nat.le_refl _⟩ X XH hS N _ _ _ _ _ _ _ _ _ _ I hl hf
/-! SharedTaxis.setRate(I)I imp=True fuel=True kap=True rt=I thr=True -/
theorem pfX1_222 : ∀ q ∈ ([(1, 3)] : List (Nat × Nat)), PN RX1 222 .int q := List.forall_mem_cons.mpr ⟨⟨RX2, TX2, 7, _, tyX2, rfl, in_X2, by decide, q247, tyX2_ok, nmX2, rfl, rfl⟩, fun _ h => by cases h⟩
def fX1_setRate (N : Nat) (κ : Nat → Nat) (σ : St) (x0 : Nat) (x1 : Int32) : Option ((Int32 ⊕ Nat) × St) := (fX1_inRange σ (x1.toInt64) (0 : Int64) (999 : Int64)).bind fun v_1 : Int32 => (fX1_require σ v_1).bind fun (v_3, σ_4) => se v_3 (fun v_5 => (gR σ_4 x0 [(0, 3)]).bind fun v_7 : Option Nat => (v_7).bind fun a_8 : Nat => (gI σ_4 a_8 [(1, 3)]).bind fun v_9 : Int32 => (isC σ_4 x0 0).bind fun u_10 : Unit => (fX1_beginOperation N κ σ_4 x0).bind fun (v_11, σ_12) => (v_11).bind fun a_13 : Nat => (pV σ_12 a_13 [(1, 3)] (.int x1)).bind fun σ_14 : St => some (.inl v_9, σ_14)) (fun q_6 => (isX σ_4 q_6).bind fun uq_6 : Unit => some (.inr q_6, σ_4))
theorem wX1_setRate_0 {E : EV} {l : Launch} {p : Program} {e : Env} {s : State} {m : MethodId} {args : Array Value} {below : List Frame} {meth : Method} {c : Code} {R : Room} {res : ((Int32 ⊕ Nat) × St)} (hX : XK E) (hR : 10 ≤ R.frames ∧ 235 ≤ R.locals) (X : MX E p s m args meth c cX1_setRate 3 (some .int) RX1 "setRate") (XH : MH c []) (hS : l.stackTraces = false) (N : Nat) : ∀ (x0 : Nat) (x1 : Int32) (σ : St) (H : Heap) (locs : List Loc) (cells slots : Nat) (ls : Array Slot), WI E R s σ H locs cells slots → lv_has ls 3 [(0, .ref x0), (1, .int x1)] → fX1_setRate N E.2.2.2.1 σ x0 x1 = some res → W p l e R s m args below meth c H locs cells slots (vx_MQ below (QS E R.cells R.slots (sv (fun v => (some (.int v))) res.1) res.2) (XS E R.cells R.slots (sx res.1) res.2) args s R.cells R.slots (fr E)) (F0 m 0 ls []) := by
  intro x0 x1 σ H locs cells slots ls I hl hf
  obtain ⟨⟨hx, hb, hml, hown, hts⟩, -⟩ := id X
  unfold fX1_setRate at hf
  refine lv_iload_n hx hb dX1_setRate_0 rfl (lv_at hl 1 rfl) ?_
  refine lv_i2l hx hb dX1_setRate_1 rfl ?_
  refine lv_lconst (v := 0) hx hb dX1_setRate_2 (by decide) ?_
  refine lv_ldc2 (v := 999) hx hb hown (hts _ q2348) dX1_setRate_3 ?_
  obtain ⟨v_1, ev_1, hf⟩ := ob hf
  refine cg_S (r := (some (.int v_1))) (σ' := σ) (rs := [.int v_1]) (rest := []) (As := [.long (x1.toInt64), .long (0 : Int64), .long (999 : Int64)]) X I (mX1_inRange hX ev_1) lvX1_125 hdX1_125 ⟨Nat.le_trans (Nat.le_of_ble_eq_true rfl) hR.1, Nat.le_trans (Nat.le_of_ble_eq_true rfl) hR.2⟩ rfl hl.1 rfl (Nat.le_of_ble_eq_true rfl) rfl dX1_setRate_6 (fun H locs cells slots I => ?_)
  obtain ⟨⟨v_3, σ_4⟩, ev_3, hf⟩ := ob hf
  have hgv_3 := hf
  rcases v_3 with v_5 | q_6
  · have hf := se_l hgv_3
    refine cx_ret (r := none) (rs := []) I (xr_S (σ' := σ_4) (rest := []) (As := [.int v_1]) X I (mX1_require hX hS ev_3) lvX1_158 hdX1_158 ⟨Nat.le_trans (Nat.le_of_ble_eq_true rfl) hR.1, Nat.le_trans (Nat.le_of_ble_eq_true rfl) hR.2⟩ rfl hl.1 rfl (Nat.le_of_ble_eq_true rfl) dX1_setRate_9) rfl (fun H locs cells slots I => ?_)
    refine lv_aload_n hx hb dX1_setRate_12 rfl (lv_at hl 0 rfl) ?_
    obtain ⟨v_7, ev_7, hf⟩ := ob hf
    refine g_get X I gfX1_87 (gR_in ev_7) dX1_setRate_13 ?_
    obtain ⟨a_8, ea_8, hga_8⟩ := ob hf
    have hla_8 := hl
    have Ia_8 := I
    subst ea_8
    have hf := hga_8
    have hl := hla_8
    have I := Ia_8
    obtain ⟨v_9, ev_9, hf⟩ := ob hf
    refine g_getN hX X I gfX1_222 (gI_in ev_9) dX1_setRate_16 ?_
    refine lv_istore_n (lv' := [(2, .int v_9), (0, .ref x0), (1, .int x1)]) hx hb dX1_setRate_19 rfl hl (by decide) rfl (fun ls hl => ?_)
    refine lv_aload_n hx hb dX1_setRate_20 rfl (lv_at hl 1 rfl) ?_
    obtain ⟨u_10, eu_10, hf⟩ := ob hf
    obtain ⟨⟨v_11, σ_12⟩, ev_11, hf⟩ := ob hf
    refine cg_V (vw := (RX1, TX1, 7)) (ci := 0) (r := (some (va_rf v_11))) (σ' := σ_12) (rs := [va_rf v_11]) (rest := []) (As := []) X I eu_10 rfl (mX1_beginOperation hX ev_11) lvX1_431 hdX1_431 ⟨Nat.le_trans (Nat.le_of_ble_eq_true rfl) hR.1, Nat.le_trans (Nat.le_of_ble_eq_true rfl) hR.2⟩ rfl hl.1 rfl (Nat.le_of_ble_eq_true rfl) rfl dX1_setRate_21 (fun H locs cells slots I => ?_)
    refine lv_iload_n hx hb dX1_setRate_24 rfl (lv_at hl 2 rfl) ?_
    obtain ⟨a_13, ea_13, hga_13⟩ := ob hf
    have hla_13 := hl
    have Ia_13 := I
    subst ea_13
    have hf := hga_13
    have hl := hla_13
    have I := Ia_13
    obtain ⟨σ_14, eσ_14, hf⟩ := ob hf
    refine g_putN hX X I pfX1_222 rfl rfl eσ_14 dX1_setRate_25 (fun H locs I => ?_)
    refine lv_iload_n hx hb dX1_setRate_28 rfl (lv_at hl 0 rfl) ?_
    cases os hf
    exact x_ret (r_iret X I dX1_setRate_29)
  · have hf := se_r hgv_3
    obtain ⟨uq_6, eq_6, hf⟩ := ob hf
    cases os hf
    refine cx_thr I (xr_S (σ' := σ_4) (rest := []) (As := [.int v_1]) X I (mX1_require hX hS ev_3) lvX1_158 hdX1_158 ⟨Nat.le_trans (Nat.le_of_ble_eq_true rfl) hR.1, Nat.le_trans (Nat.le_of_ble_eq_true rfl) hR.2⟩ rfl hl.1 rfl (Nat.le_of_ble_eq_true rfl) dX1_setRate_9) (fun H locs cells slots I => ?_)
    exact x_out X XH rfl I eq_6
theorem mX1_setRate {E : EV} {l : Launch} {N : Nat} {σ : St} {x0 : Nat} {x1 : Int32} {res : ((Int32 ⊕ Nat) × St)} (hX : XK E) (hS : l.stackTraces = false) (hf : fX1_setRate N E.2.2.2.1 σ x0 x1 = some res) : CX E l yX1_setRate (ws_ yX1_setRate cX1_setRate 3 (some .int)) 10 235 [.ref x0, .int x1] σ (sv (fun v => (some (.int v))) res.1) (sx res.1) res.2 := by
  refine CX.of hX.1 (by decide) rfl rfl (Nat.le_of_ble_eq_true rfl) ?_
  intro p e s m below meth c X XH I ls hl
  exact wX1_setRate_0 hX ⟨Nat.le_refl _, Nat.le_refl _⟩ X XH hS N _ _ _ _ _ _ _ _ I hl hf
/-! SharedTaxisLaw.setRate(LSharedTaxis;I[J)I imp=True fuel=True kap=True rt=I thr=False -/
theorem lvX0_84 : GoodIn lw_all (wsV RX0 84 RX1 yX1_setRate (ws_ yX1_setRate cX1_setRate 3 (some .int))) := lw_V q2344 q2345 q2346 q113 q2347
theorem hdX0_84 : yX1_setRate.cls = RX1 ∧ yX1_setRate.cls ≠ "java/lang/invoke/MethodHandle" ∧ yX1_setRate.cls ≠ "java/lang/invoke/VarHandle" ∧ (parseMethodDescriptor yX1_setRate.desc).map (fun d => d.parameters.length) = some 1 := by decide +kernel
def fX0_setRate (N : Nat) (κ : Nat → Nat) (σ : St) (x0 : Nat) (x1 : Int32) (x2 : Nat) : Option (Int32 × St) := (isC σ x0 0).bind fun u_1 : Unit => (fX1_setRate N κ σ x0 x1).bind fun (v_2, σ_3) => se v_2 (fun v_4 => (sJ σ_3 x2 (0 : Int32) (v_4.toInt64)).bind fun σ_6 : St => some ((0 : Int32), σ_6)) (fun q_5 => (clsX σ_3 q_5).bind fun c_7 : Nat => if c_7 = 35 then some ((1 : Int32), σ_3) else none)
theorem wX0_setRate_0 {E : EV} {l : Launch} {p : Program} {e : Env} {s : State} {m : MethodId} {args : Array Value} {below : List Frame} {meth : Method} {c : Code} {R : Room} {res : (Int32 × St)} (hX : XK E) (hR : 11 ≤ R.frames ∧ 257 ≤ R.locals) (X : MX E p s m args meth c cX0_setRate 4 (some .int) RX0 "setRate") (XH : MH c [(0, 9, 12, 13)]) (hS : l.stackTraces = false) (N : Nat) : ∀ (x0 : Nat) (x1 : Int32) (x2 : Nat) (σ : St) (H : Heap) (locs : List Loc) (cells slots : Nat) (ls : Array Slot), WI E R s σ H locs cells slots → lv_has ls 4 [(0, .ref x0), (1, .int x1), (2, .ref x2)] → fX0_setRate N E.2.2.2.1 σ x0 x1 x2 = some res → W p l e R s m args below meth c H locs cells slots (vx_MQ below (QS E R.cells R.slots (some (some (.int res.1))) res.2) (XS E R.cells R.slots none res.2) args s R.cells R.slots (fr E)) (F0 m 0 ls []) := by
  intro x0 x1 x2 σ H locs cells slots ls I hl hf
  obtain ⟨⟨hx, hb, hml, hown, hts⟩, -⟩ := id X
  unfold fX0_setRate at hf
  refine lv_aload_n hx hb dX0_setRate_0 rfl (lv_at hl 2 rfl) ?_
  refine lv_iconst (v := 0) hx hb dX0_setRate_1 (by decide) ?_
  refine lv_aload_n hx hb dX0_setRate_2 rfl (lv_at hl 0 rfl) ?_
  refine lv_iload_n hx hb dX0_setRate_3 rfl (lv_at hl 1 rfl) ?_
  obtain ⟨u_1, eu_1, hf⟩ := ob hf
  obtain ⟨⟨v_2, σ_3⟩, ev_2, hf⟩ := ob hf
  have hgv_2 := hf
  rcases v_2 with v_4 | q_5
  · have hf := se_l hgv_2
    refine cx_ret (r := (some (.int v_4))) (rs := [.int v_4, .int (0 : Int32), .ref x2]) I (xr_V (vw := (RX1, TX1, 7)) (ci := 0) (σ' := σ_3) (rest := [.int (0 : Int32), .ref x2]) (As := [.int x1]) X I eu_1 rfl (mX1_setRate hX hS ev_2) lvX0_84 hdX0_84 ⟨Nat.le_trans (Nat.le_of_ble_eq_true rfl) hR.1, Nat.le_trans (Nat.le_of_ble_eq_true rfl) hR.2⟩ rfl hl.1 rfl (Nat.le_of_ble_eq_true rfl) dX0_setRate_4) rfl (fun H locs cells slots I => ?_)
    refine lv_i2l hx hb dX0_setRate_7 rfl ?_
    obtain ⟨σ_6, eσ_6, hf⟩ := ob hf
    refine g_last X I eσ_6 dX0_setRate_8 (fun H locs I => ?_)
    refine lv_goto (tgt := 15) hx hb dX0_setRate_9 (by decide) ?_
    refine lv_iconst (v := 0) hx hb dX0_setRate_15 (by decide) ?_
    cases os hf
    exact x_ret (r_iret X I dX0_setRate_16)
  · have hf := se_r hgv_2
    obtain ⟨c_7, ec_7, hf⟩ := ob hf
    refine cx_thr I (xr_V (vw := (RX1, TX1, 7)) (ci := 0) (σ' := σ_3) (rest := [.int (0 : Int32), .ref x2]) (As := [.int x1]) X I eu_1 rfl (mX1_setRate hX hS ev_2) lvX0_84 hdX0_84 ⟨Nat.le_trans (Nat.le_of_ble_eq_true rfl) hR.1, Nat.le_trans (Nat.le_of_ble_eq_true rfl) hR.2⟩ rfl hl.1 rfl (Nat.le_of_ble_eq_true rfl) dX0_setRate_4) (fun H locs cells slots I => ?_)
    by_cases cc_7_E7 : c_7 = 35
    · have hf := ip cc_7_E7 hf
      refine x_catch (vw := (RJ7, TJ7, 0)) hX X XH I (cc_7_E7 ▸ ec_7) rfl ((tableOf [(0, 9, 12, 13)]).take 0) _ _ rfl (fun z hz => nomatch hz) rfl (by decide) q1197 q723 ?_
      refine lv_astore_n (lv' := [(3, .ref q_5), (0, .ref x0), (1, .int x1), (2, .ref x2)]) hx hb dX0_setRate_12 rfl hl (by decide) rfl (fun ls hl => ?_)
      refine lv_iconst (v := 1) hx hb dX0_setRate_13 (by decide) ?_
      cases os hf
      exact x_ret (r_iret X I dX0_setRate_14)
    · have hf := im cc_7_E7 hf
      exact nomatch hf
theorem mX0_setRate {E : EV} {l : Launch} {N : Nat} {σ : St} {x0 : Nat} {x1 : Int32} {x2 : Nat} {res : (Int32 × St)} (hX : XK E) (hS : l.stackTraces = false) (hf : fX0_setRate N E.2.2.2.1 σ x0 x1 x2 = some res) : CX E l yX0_setRate (wsW_ yX0_setRate cX0_setRate 4 (some .int) [(0, 9, 12, 13)]) 11 257 [.ref x0, .int x1, .ref x2] σ (some (some (.int res.1))) none res.2 := by
  refine CX.ofH hX.1 (by decide) rfl rfl (Nat.le_of_ble_eq_true rfl) ?_
  intro p e s m below meth c X XH I ls hl
  exact wX0_setRate_0 hX ⟨Nat.le_refl _, Nat.le_refl _⟩ X XH hS N _ _ _ _ _ _ _ _ _ I hl hf
/-! SharedTaxis.setEnd(II)I imp=True fuel=True kap=True rt=I thr=True -/
theorem pfX1_254 : ∀ q ∈ ([(10, 4)] : List (Nat × Nat)), PN RX1 254 .int q := List.forall_mem_cons.mpr ⟨⟨RX12, TX12, 15, _, tyX12, rfl, in_X12, by decide, q920, tyX12_ok, nmX12, rfl, rfl⟩, fun _ h => by cases h⟩
def fX1_setEnd (N : Nat) (κ : Nat → Nat) (σ : St) (x0 : Nat) (x1 : Int32) (x2 : Int32) : Option ((Int32 ⊕ Nat) × St) := (isC σ x0 0).bind fun u_1 : Unit => (fX1_taxiAt σ x0 x1).bind fun (v_2, σ_3) => se v_2 (fun v_4 => (gI σ_3 v_4 [(10, 1)]).bind fun v_6 : Int32 => (fX1_inRange σ_3 (x2.toInt64) ((v_6.toInt64) + (1 : Int64)) (2879 : Int64)).bind fun v_7 : Int32 => (fX1_require σ_3 v_7).bind fun (v_9, σ_10) => se v_9 (fun v_11 => (gI σ_10 v_4 [(10, 4)]).bind fun v_13 : Int32 => (isC σ_10 x0 0).bind fun u_14 : Unit => (fX1_beginOperation N κ σ_10 x0).bind fun (v_15, σ_16) => (pV σ_16 v_4 [(10, 4)] (.int x2)).bind fun σ_17 : St => some (.inl v_13, σ_17)) (fun q_12 => (isX σ_10 q_12).bind fun uq_12 : Unit => some (.inr q_12, σ_10))) (fun q_5 => (isX σ_3 q_5).bind fun uq_5 : Unit => some (.inr q_5, σ_3))
theorem wX1_setEnd_0 {E : EV} {l : Launch} {p : Program} {e : Env} {s : State} {m : MethodId} {args : Array Value} {below : List Frame} {meth : Method} {c : Code} {R : Room} {res : ((Int32 ⊕ Nat) × St)} (hX : XK E) (hR : 10 ≤ R.frames ∧ 235 ≤ R.locals) (X : MX E p s m args meth c cX1_setEnd 5 (some .int) RX1 "setEnd") (XH : MH c []) (hS : l.stackTraces = false) (N : Nat) : ∀ (x0 : Nat) (x1 : Int32) (x2 : Int32) (σ : St) (H : Heap) (locs : List Loc) (cells slots : Nat) (ls : Array Slot), WI E R s σ H locs cells slots → lv_has ls 5 [(0, .ref x0), (1, .int x1), (2, .int x2)] → fX1_setEnd N E.2.2.2.1 σ x0 x1 x2 = some res → W p l e R s m args below meth c H locs cells slots (vx_MQ below (QS E R.cells R.slots (sv (fun v => (some (.int v))) res.1) res.2) (XS E R.cells R.slots (sx res.1) res.2) args s R.cells R.slots (fr E)) (F0 m 0 ls []) := by
  intro x0 x1 x2 σ H locs cells slots ls I hl hf
  obtain ⟨⟨hx, hb, hml, hown, hts⟩, -⟩ := id X
  unfold fX1_setEnd at hf
  refine lv_aload_n hx hb dX1_setEnd_0 rfl (lv_at hl 0 rfl) ?_
  refine lv_iload_n hx hb dX1_setEnd_1 rfl (lv_at hl 1 rfl) ?_
  obtain ⟨u_1, eu_1, hf⟩ := ob hf
  obtain ⟨⟨v_2, σ_3⟩, ev_2, hf⟩ := ob hf
  have hgv_2 := hf
  rcases v_2 with v_4 | q_5
  · have hf := se_l hgv_2
    refine cx_ret (r := (some (.ref v_4))) (rs := [.ref v_4]) I (xr_V (vw := (RX1, TX1, 7)) (ci := 0) (σ' := σ_3) (rest := []) (As := [.int x1]) X I eu_1 rfl (mX1_taxiAt hX hS ev_2) lvX1_238 hdX1_238 ⟨Nat.le_trans (Nat.le_of_ble_eq_true rfl) hR.1, Nat.le_trans (Nat.le_of_ble_eq_true rfl) hR.2⟩ rfl hl.1 rfl (Nat.le_of_ble_eq_true rfl) dX1_setEnd_2) rfl (fun H locs cells slots I => ?_)
    refine lv_astore_n (lv' := [(3, .ref v_4), (0, .ref x0), (1, .int x1), (2, .int x2)]) hx hb dX1_setEnd_5 rfl hl (by decide) rfl (fun ls hl => ?_)
    refine lv_iload_n hx hb dX1_setEnd_6 rfl (lv_at hl 3 rfl) ?_
    refine lv_i2l hx hb dX1_setEnd_7 rfl ?_
    refine lv_aload_n hx hb dX1_setEnd_8 rfl (lv_at hl 0 rfl) ?_
    obtain ⟨v_6, ev_6, hf⟩ := ob hf
    refine g_getN hX X I gfX1_251 (gI_in ev_6) dX1_setEnd_9 ?_
    refine lv_i2l hx hb dX1_setEnd_12 rfl ?_
    refine lv_lconst (v := 1) hx hb dX1_setEnd_13 (by decide) ?_
    refine lv_ladd hx hb dX1_setEnd_14 ?_
    refine lv_ldc2 (v := 2879) hx hb hown (hts _ q2356) dX1_setEnd_15 ?_
    obtain ⟨v_7, ev_7, hf⟩ := ob hf
    refine cg_S (r := (some (.int v_7))) (σ' := σ_3) (rs := [.int v_7]) (rest := []) (As := [.long (x2.toInt64), .long ((v_6.toInt64) + (1 : Int64)), .long (2879 : Int64)]) X I (mX1_inRange hX ev_7) lvX1_125 hdX1_125 ⟨Nat.le_trans (Nat.le_of_ble_eq_true rfl) hR.1, Nat.le_trans (Nat.le_of_ble_eq_true rfl) hR.2⟩ rfl hl.1 rfl (Nat.le_of_ble_eq_true rfl) rfl dX1_setEnd_18 (fun H locs cells slots I => ?_)
    obtain ⟨⟨v_9, σ_10⟩, ev_9, hf⟩ := ob hf
    have hgv_9 := hf
    rcases v_9 with v_11 | q_12
    · have hf := se_l hgv_9
      refine cx_ret (r := none) (rs := []) I (xr_S (σ' := σ_10) (rest := []) (As := [.int v_7]) X I (mX1_require hX hS ev_9) lvX1_158 hdX1_158 ⟨Nat.le_trans (Nat.le_of_ble_eq_true rfl) hR.1, Nat.le_trans (Nat.le_of_ble_eq_true rfl) hR.2⟩ rfl hl.1 rfl (Nat.le_of_ble_eq_true rfl) dX1_setEnd_21) rfl (fun H locs cells slots I => ?_)
      refine lv_aload_n hx hb dX1_setEnd_24 rfl (lv_at hl 0 rfl) ?_
      obtain ⟨v_13, ev_13, hf⟩ := ob hf
      refine g_getN hX X I gfX1_254 (gI_in ev_13) dX1_setEnd_25 ?_
      refine lv_istore (lv' := [(4, .int v_13), (3, .ref v_4), (0, .ref x0), (1, .int x1), (2, .int x2)]) hx hb dX1_setEnd_28 hl (by decide) rfl (fun ls hl => ?_)
      refine lv_aload_n hx hb dX1_setEnd_30 rfl (lv_at hl 2 rfl) ?_
      obtain ⟨u_14, eu_14, hf⟩ := ob hf
      obtain ⟨⟨v_15, σ_16⟩, ev_15, hf⟩ := ob hf
      refine cg_V (vw := (RX1, TX1, 7)) (ci := 0) (r := (some (va_rf v_15))) (σ' := σ_16) (rs := [va_rf v_15]) (rest := []) (As := []) X I eu_14 rfl (mX1_beginOperation hX ev_15) lvX1_431 hdX1_431 ⟨Nat.le_trans (Nat.le_of_ble_eq_true rfl) hR.1, Nat.le_trans (Nat.le_of_ble_eq_true rfl) hR.2⟩ rfl hl.1 rfl (Nat.le_of_ble_eq_true rfl) rfl dX1_setEnd_31 (fun H locs cells slots I => ?_)
      refine lv_pop hx hb dX1_setEnd_34 (rf_cat _) ?_
      refine lv_aload_n hx hb dX1_setEnd_35 rfl (lv_at hl 1 rfl) ?_
      refine lv_iload_n hx hb dX1_setEnd_36 rfl (lv_at hl 4 rfl) ?_
      obtain ⟨σ_17, eσ_17, hf⟩ := ob hf
      refine g_putN hX X I pfX1_254 rfl rfl eσ_17 dX1_setEnd_37 (fun H locs I => ?_)
      refine lv_iload hx hb dX1_setEnd_40 (lv_at hl 0 rfl) ?_
      cases os hf
      exact x_ret (r_iret X I dX1_setEnd_42)
    · have hf := se_r hgv_9
      obtain ⟨uq_12, eq_12, hf⟩ := ob hf
      cases os hf
      refine cx_thr I (xr_S (σ' := σ_10) (rest := []) (As := [.int v_7]) X I (mX1_require hX hS ev_9) lvX1_158 hdX1_158 ⟨Nat.le_trans (Nat.le_of_ble_eq_true rfl) hR.1, Nat.le_trans (Nat.le_of_ble_eq_true rfl) hR.2⟩ rfl hl.1 rfl (Nat.le_of_ble_eq_true rfl) dX1_setEnd_21) (fun H locs cells slots I => ?_)
      exact x_out X XH rfl I eq_12
  · have hf := se_r hgv_2
    obtain ⟨uq_5, eq_5, hf⟩ := ob hf
    cases os hf
    refine cx_thr I (xr_V (vw := (RX1, TX1, 7)) (ci := 0) (σ' := σ_3) (rest := []) (As := [.int x1]) X I eu_1 rfl (mX1_taxiAt hX hS ev_2) lvX1_238 hdX1_238 ⟨Nat.le_trans (Nat.le_of_ble_eq_true rfl) hR.1, Nat.le_trans (Nat.le_of_ble_eq_true rfl) hR.2⟩ rfl hl.1 rfl (Nat.le_of_ble_eq_true rfl) dX1_setEnd_2) (fun H locs cells slots I => ?_)
    exact x_out X XH rfl I eq_5
theorem mX1_setEnd {E : EV} {l : Launch} {N : Nat} {σ : St} {x0 : Nat} {x1 : Int32} {x2 : Int32} {res : ((Int32 ⊕ Nat) × St)} (hX : XK E) (hS : l.stackTraces = false) (hf : fX1_setEnd N E.2.2.2.1 σ x0 x1 x2 = some res) : CX E l yX1_setEnd (ws_ yX1_setEnd cX1_setEnd 5 (some .int)) 10 235 [.ref x0, .int x1, .int x2] σ (sv (fun v => (some (.int v))) res.1) (sx res.1) res.2 := by
  refine CX.of hX.1 (by decide) rfl rfl (Nat.le_of_ble_eq_true rfl) ?_
  intro p e s m below meth c X XH I ls hl
  exact wX1_setEnd_0 hX ⟨Nat.le_refl _, Nat.le_refl _⟩ X XH hS N _ _ _ _ _ _ _ _ _ I hl hf
/-! SharedTaxisLaw.setEnd(LSharedTaxis;II[J)I imp=True fuel=True kap=True rt=I thr=False -/
theorem lvX0_87 : GoodIn lw_all (wsV RX0 87 RX1 yX1_setEnd (ws_ yX1_setEnd cX1_setEnd 5 (some .int))) := lw_V q2352 q2353 q2354 q113 q2355
theorem hdX0_87 : yX1_setEnd.cls = RX1 ∧ yX1_setEnd.cls ≠ "java/lang/invoke/MethodHandle" ∧ yX1_setEnd.cls ≠ "java/lang/invoke/VarHandle" ∧ (parseMethodDescriptor yX1_setEnd.desc).map (fun d => d.parameters.length) = some 2 := by decide +kernel
def fX0_setEnd (N : Nat) (κ : Nat → Nat) (σ : St) (x0 : Nat) (x1 : Int32) (x2 : Int32) (x3 : Nat) : Option (Int32 × St) := (isC σ x0 0).bind fun u_1 : Unit => (fX1_setEnd N κ σ x0 x1 x2).bind fun (v_2, σ_3) => se v_2 (fun v_4 => (sJ σ_3 x3 (0 : Int32) (v_4.toInt64)).bind fun σ_6 : St => some ((0 : Int32), σ_6)) (fun q_5 => (clsX σ_3 q_5).bind fun c_7 : Nat => if c_7 = 34 then some ((1 : Int32), σ_3) else if c_7 = 35 then some ((2 : Int32), σ_3) else none)
theorem wX0_setEnd_0 {E : EV} {l : Launch} {p : Program} {e : Env} {s : State} {m : MethodId} {args : Array Value} {below : List Frame} {meth : Method} {c : Code} {R : Room} {res : (Int32 × St)} (hX : XK E) (hR : 11 ≤ R.frames ∧ 259 ≤ R.locals) (X : MX E p s m args meth c cX0_setEnd 5 (some .int) RX0 "setEnd") (XH : MH c [(0, 10, 13, 18), (0, 10, 17, 13)]) (hS : l.stackTraces = false) (N : Nat) : ∀ (x0 : Nat) (x1 : Int32) (x2 : Int32) (x3 : Nat) (σ : St) (H : Heap) (locs : List Loc) (cells slots : Nat) (ls : Array Slot), WI E R s σ H locs cells slots → lv_has ls 5 [(0, .ref x0), (1, .int x1), (2, .int x2), (3, .ref x3)] → fX0_setEnd N E.2.2.2.1 σ x0 x1 x2 x3 = some res → W p l e R s m args below meth c H locs cells slots (vx_MQ below (QS E R.cells R.slots (some (some (.int res.1))) res.2) (XS E R.cells R.slots none res.2) args s R.cells R.slots (fr E)) (F0 m 0 ls []) := by
  intro x0 x1 x2 x3 σ H locs cells slots ls I hl hf
  obtain ⟨⟨hx, hb, hml, hown, hts⟩, -⟩ := id X
  unfold fX0_setEnd at hf
  refine lv_aload_n hx hb dX0_setEnd_0 rfl (lv_at hl 3 rfl) ?_
  refine lv_iconst (v := 0) hx hb dX0_setEnd_1 (by decide) ?_
  refine lv_aload_n hx hb dX0_setEnd_2 rfl (lv_at hl 0 rfl) ?_
  refine lv_iload_n hx hb dX0_setEnd_3 rfl (lv_at hl 1 rfl) ?_
  refine lv_iload_n hx hb dX0_setEnd_4 rfl (lv_at hl 2 rfl) ?_
  obtain ⟨u_1, eu_1, hf⟩ := ob hf
  obtain ⟨⟨v_2, σ_3⟩, ev_2, hf⟩ := ob hf
  have hgv_2 := hf
  rcases v_2 with v_4 | q_5
  · have hf := se_l hgv_2
    refine cx_ret (r := (some (.int v_4))) (rs := [.int v_4, .int (0 : Int32), .ref x3]) I (xr_V (vw := (RX1, TX1, 7)) (ci := 0) (σ' := σ_3) (rest := [.int (0 : Int32), .ref x3]) (As := [.int x1, .int x2]) X I eu_1 rfl (mX1_setEnd hX hS ev_2) lvX0_87 hdX0_87 ⟨Nat.le_trans (Nat.le_of_ble_eq_true rfl) hR.1, Nat.le_trans (Nat.le_of_ble_eq_true rfl) hR.2⟩ rfl hl.1 rfl (Nat.le_of_ble_eq_true rfl) dX0_setEnd_5) rfl (fun H locs cells slots I => ?_)
    refine lv_i2l hx hb dX0_setEnd_8 rfl ?_
    obtain ⟨σ_6, eσ_6, hf⟩ := ob hf
    refine g_last X I eσ_6 dX0_setEnd_9 (fun H locs I => ?_)
    refine lv_goto (tgt := 21) hx hb dX0_setEnd_10 (by decide) ?_
    refine lv_iconst (v := 0) hx hb dX0_setEnd_21 (by decide) ?_
    cases os hf
    exact x_ret (r_iret X I dX0_setEnd_22)
  · have hf := se_r hgv_2
    obtain ⟨c_7, ec_7, hf⟩ := ob hf
    refine cx_thr I (xr_V (vw := (RX1, TX1, 7)) (ci := 0) (σ' := σ_3) (rest := [.int (0 : Int32), .ref x3]) (As := [.int x1, .int x2]) X I eu_1 rfl (mX1_setEnd hX hS ev_2) lvX0_87 hdX0_87 ⟨Nat.le_trans (Nat.le_of_ble_eq_true rfl) hR.1, Nat.le_trans (Nat.le_of_ble_eq_true rfl) hR.2⟩ rfl hl.1 rfl (Nat.le_of_ble_eq_true rfl) dX0_setEnd_5) (fun H locs cells slots I => ?_)
    by_cases cc_7_E22 : c_7 = 34
    · have hf := ip cc_7_E22 hf
      refine x_catch (vw := (RJ22, TJ22, 0)) hX X XH I (cc_7_E22 ▸ ec_7) rfl ((tableOf [(0, 10, 13, 18), (0, 10, 17, 13)]).take 0) _ _ rfl (fun z hz => nomatch hz) rfl (by decide) q1558 q417 ?_
      refine lv_astore (lv' := [(4, .ref q_5), (0, .ref x0), (1, .int x1), (2, .int x2), (3, .ref x3)]) hx hb dX0_setEnd_13 hl (by decide) rfl (fun ls hl => ?_)
      refine lv_iconst (v := 1) hx hb dX0_setEnd_15 (by decide) ?_
      cases os hf
      exact x_ret (r_iret X I dX0_setEnd_16)
    · have hf := im cc_7_E22 hf
      by_cases cc_7_E7 : c_7 = 35
      · have hf := ip cc_7_E7 hf
        refine x_catch (vw := (RJ7, TJ7, 0)) hX X XH I (cc_7_E7 ▸ ec_7) rfl ((tableOf [(0, 10, 13, 18), (0, 10, 17, 13)]).take 1) _ _ rfl (List.forall_mem_cons.mpr ⟨Or.inr ⟨by decide, _, q1558, List.mem_of_getElem? (i := 0) rfl⟩, (fun z hz => nomatch hz)⟩) rfl (by decide) q1197 q723 ?_
        refine lv_astore (lv' := [(4, .ref q_5), (0, .ref x0), (1, .int x1), (2, .int x2), (3, .ref x3)]) hx hb dX0_setEnd_17 hl (by decide) rfl (fun ls hl => ?_)
        refine lv_iconst (v := 2) hx hb dX0_setEnd_19 (by decide) ?_
        cases os hf
        exact x_ret (r_iret X I dX0_setEnd_20)
      · have hf := im cc_7_E7 hf
        exact nomatch hf
theorem mX0_setEnd {E : EV} {l : Launch} {N : Nat} {σ : St} {x0 : Nat} {x1 : Int32} {x2 : Int32} {x3 : Nat} {res : (Int32 × St)} (hX : XK E) (hS : l.stackTraces = false) (hf : fX0_setEnd N E.2.2.2.1 σ x0 x1 x2 x3 = some res) : CX E l yX0_setEnd (wsW_ yX0_setEnd cX0_setEnd 5 (some .int) [(0, 10, 13, 18), (0, 10, 17, 13)]) 11 259 [.ref x0, .int x1, .int x2, .ref x3] σ (some (some (.int res.1))) none res.2 := by
  refine CX.ofH hX.1 (by decide) rfl rfl (Nat.le_of_ble_eq_true rfl) ?_
  intro p e s m below meth c X XH I ls hl
  exact wX0_setEnd_0 hX ⟨Nat.le_refl _, Nat.le_refl _⟩ X XH hS N _ _ _ _ _ _ _ _ _ _ I hl hf
/-! SharedTaxis.setRule(II)I imp=True fuel=True kap=True rt=I thr=True -/
theorem lvX1_481 : GoodIn lw_all (wsV RX1 481 RX1 yX1_rule (ws_ yX1_rule cX1_rule 2 (some .int))) := lw_V q2364 q1575 q1576 q113 q1577
theorem hdX1_481 : yX1_rule.cls = RX1 ∧ yX1_rule.cls ≠ "java/lang/invoke/MethodHandle" ∧ yX1_rule.cls ≠ "java/lang/invoke/VarHandle" ∧ (parseMethodDescriptor yX1_rule.desc).map (fun d => d.parameters.length) = some 1 := by decide +kernel
theorem lvX1_484 : GoodIn lw_all (va_wsS RX1 484 yX1_leastOf (ws_ yX1_leastOf cX1_leastOf 1 (some .int))) := lw_S q2365 q1527 q113 q1528
theorem hdX1_484 : yX1_leastOf.cls ≠ "java/lang/invoke/MethodHandle" ∧ yX1_leastOf.cls ≠ "java/lang/invoke/VarHandle" ∧ (parseMethodDescriptor yX1_leastOf.desc).map (fun d => d.parameters.length) = some 1 := by decide +kernel
theorem lvX1_487 : GoodIn lw_all (va_wsS RX1 487 yX1_mostOf (ws_ yX1_mostOf cX1_mostOf 1 (some .int))) := lw_S q2366 q1509 q113 q1510
theorem hdX1_487 : yX1_mostOf.cls ≠ "java/lang/invoke/MethodHandle" ∧ yX1_mostOf.cls ≠ "java/lang/invoke/VarHandle" ∧ (parseMethodDescriptor yX1_mostOf.desc).map (fun d => d.parameters.length) = some 1 := by decide +kernel
def fX1_setRule (N : Nat) (κ : Nat → Nat) (σ : St) (x0 : Nat) (x1 : Int32) (x2 : Int32) : Option ((Int32 ⊕ Nat) × St) := (isC σ x0 0).bind fun u_1 : Unit => (fX1_rule σ x0 x1).bind fun (v_2, σ_3) => se v_2 (fun v_4 => (fX1_leastOf σ_3 x1).bind fun v_6 : Int32 => (fX1_mostOf σ_3 x1).bind fun v_8 : Int32 => (fX1_inRange σ_3 (x2.toInt64) (v_6.toInt64) (v_8.toInt64)).bind fun v_10 : Int32 => (fX1_require σ_3 v_10).bind fun (v_12, σ_13) => se v_12 (fun v_14 => (isC σ_13 x0 0).bind fun u_16 : Unit => (fX1_beginOperation N κ σ_13 x0).bind fun (v_17, σ_18) => (v_17).bind fun a_19 : Nat => (gR σ_18 a_19 [(1, 1)]).bind fun v_20 : Option Nat => (v_20).bind fun a_21 : Nat => (sI σ_18 a_21 0 x1 x2).bind fun σ_22 : St => some (.inl v_4, σ_22)) (fun q_15 => (isX σ_13 q_15).bind fun uq_15 : Unit => some (.inr q_15, σ_13))) (fun q_5 => (isX σ_3 q_5).bind fun uq_5 : Unit => some (.inr q_5, σ_3))
theorem wX1_setRule_0 {E : EV} {l : Launch} {p : Program} {e : Env} {s : State} {m : MethodId} {args : Array Value} {below : List Frame} {meth : Method} {c : Code} {R : Room} {res : ((Int32 ⊕ Nat) × St)} (hX : XK E) (hR : 10 ≤ R.frames ∧ 235 ≤ R.locals) (X : MX E p s m args meth c cX1_setRule 4 (some .int) RX1 "setRule") (XH : MH c []) (hS : l.stackTraces = false) (N : Nat) : ∀ (x0 : Nat) (x1 : Int32) (x2 : Int32) (σ : St) (H : Heap) (locs : List Loc) (cells slots : Nat) (ls : Array Slot), WI E R s σ H locs cells slots → lv_has ls 4 [(0, .ref x0), (1, .int x1), (2, .int x2)] → fX1_setRule N E.2.2.2.1 σ x0 x1 x2 = some res → W p l e R s m args below meth c H locs cells slots (vx_MQ below (QS E R.cells R.slots (sv (fun v => (some (.int v))) res.1) res.2) (XS E R.cells R.slots (sx res.1) res.2) args s R.cells R.slots (fr E)) (F0 m 0 ls []) := by
  intro x0 x1 x2 σ H locs cells slots ls I hl hf
  obtain ⟨⟨hx, hb, hml, hown, hts⟩, -⟩ := id X
  unfold fX1_setRule at hf
  refine lv_aload_n hx hb dX1_setRule_0 rfl (lv_at hl 0 rfl) ?_
  refine lv_iload_n hx hb dX1_setRule_1 rfl (lv_at hl 1 rfl) ?_
  obtain ⟨u_1, eu_1, hf⟩ := ob hf
  obtain ⟨⟨v_2, σ_3⟩, ev_2, hf⟩ := ob hf
  have hgv_2 := hf
  rcases v_2 with v_4 | q_5
  · have hf := se_l hgv_2
    refine cx_ret (r := (some (.int v_4))) (rs := [.int v_4]) I (xr_V (vw := (RX1, TX1, 7)) (ci := 0) (σ' := σ_3) (rest := []) (As := [.int x1]) X I eu_1 rfl (mX1_rule hX hS ev_2) lvX1_481 hdX1_481 ⟨Nat.le_trans (Nat.le_of_ble_eq_true rfl) hR.1, Nat.le_trans (Nat.le_of_ble_eq_true rfl) hR.2⟩ rfl hl.1 rfl (Nat.le_of_ble_eq_true rfl) dX1_setRule_2) rfl (fun H locs cells slots I => ?_)
    refine lv_istore_n (lv' := [(3, .int v_4), (0, .ref x0), (1, .int x1), (2, .int x2)]) hx hb dX1_setRule_5 rfl hl (by decide) rfl (fun ls hl => ?_)
    refine lv_iload_n hx hb dX1_setRule_6 rfl (lv_at hl 3 rfl) ?_
    refine lv_i2l hx hb dX1_setRule_7 rfl ?_
    refine lv_iload_n hx hb dX1_setRule_8 rfl (lv_at hl 2 rfl) ?_
    obtain ⟨v_6, ev_6, hf⟩ := ob hf
    refine cg_S (r := (some (.int v_6))) (σ' := σ_3) (rs := [.int v_6, .long (x2.toInt64)]) (rest := [.long (x2.toInt64)]) (As := [.int x1]) X I (mX1_leastOf hX ev_6) lvX1_484 hdX1_484 ⟨Nat.le_trans (Nat.le_of_ble_eq_true rfl) hR.1, Nat.le_trans (Nat.le_of_ble_eq_true rfl) hR.2⟩ rfl hl.1 rfl (Nat.le_of_ble_eq_true rfl) rfl dX1_setRule_9 (fun H locs cells slots I => ?_)
    refine lv_i2l hx hb dX1_setRule_12 rfl ?_
    refine lv_iload_n hx hb dX1_setRule_13 rfl (lv_at hl 2 rfl) ?_
    obtain ⟨v_8, ev_8, hf⟩ := ob hf
    refine cg_S (r := (some (.int v_8))) (σ' := σ_3) (rs := [.int v_8, .long (v_6.toInt64), .long (x2.toInt64)]) (rest := [.long (v_6.toInt64), .long (x2.toInt64)]) (As := [.int x1]) X I (mX1_mostOf hX ev_8) lvX1_487 hdX1_487 ⟨Nat.le_trans (Nat.le_of_ble_eq_true rfl) hR.1, Nat.le_trans (Nat.le_of_ble_eq_true rfl) hR.2⟩ rfl hl.1 rfl (Nat.le_of_ble_eq_true rfl) rfl dX1_setRule_14 (fun H locs cells slots I => ?_)
    refine lv_i2l hx hb dX1_setRule_17 rfl ?_
    obtain ⟨v_10, ev_10, hf⟩ := ob hf
    refine cg_S (r := (some (.int v_10))) (σ' := σ_3) (rs := [.int v_10]) (rest := []) (As := [.long (x2.toInt64), .long (v_6.toInt64), .long (v_8.toInt64)]) X I (mX1_inRange hX ev_10) lvX1_125 hdX1_125 ⟨Nat.le_trans (Nat.le_of_ble_eq_true rfl) hR.1, Nat.le_trans (Nat.le_of_ble_eq_true rfl) hR.2⟩ rfl hl.1 rfl (Nat.le_of_ble_eq_true rfl) rfl dX1_setRule_18 (fun H locs cells slots I => ?_)
    obtain ⟨⟨v_12, σ_13⟩, ev_12, hf⟩ := ob hf
    have hgv_12 := hf
    rcases v_12 with v_14 | q_15
    · have hf := se_l hgv_12
      refine cx_ret (r := none) (rs := []) I (xr_S (σ' := σ_13) (rest := []) (As := [.int v_10]) X I (mX1_require hX hS ev_12) lvX1_158 hdX1_158 ⟨Nat.le_trans (Nat.le_of_ble_eq_true rfl) hR.1, Nat.le_trans (Nat.le_of_ble_eq_true rfl) hR.2⟩ rfl hl.1 rfl (Nat.le_of_ble_eq_true rfl) dX1_setRule_21) rfl (fun H locs cells slots I => ?_)
      refine lv_aload_n hx hb dX1_setRule_24 rfl (lv_at hl 1 rfl) ?_
      obtain ⟨u_16, eu_16, hf⟩ := ob hf
      obtain ⟨⟨v_17, σ_18⟩, ev_17, hf⟩ := ob hf
      refine cg_V (vw := (RX1, TX1, 7)) (ci := 0) (r := (some (va_rf v_17))) (σ' := σ_18) (rs := [va_rf v_17]) (rest := []) (As := []) X I eu_16 rfl (mX1_beginOperation hX ev_17) lvX1_431 hdX1_431 ⟨Nat.le_trans (Nat.le_of_ble_eq_true rfl) hR.1, Nat.le_trans (Nat.le_of_ble_eq_true rfl) hR.2⟩ rfl hl.1 rfl (Nat.le_of_ble_eq_true rfl) rfl dX1_setRule_25 (fun H locs cells slots I => ?_)
      obtain ⟨a_19, ea_19, hga_19⟩ := ob hf
      have hla_19 := hl
      have Ia_19 := I
      subst ea_19
      have hf := hga_19
      have hl := hla_19
      have I := Ia_19
      obtain ⟨v_20, ev_20, hf⟩ := ob hf
      refine g_getN hX X I gfX1_227 (gR_in ev_20) dX1_setRule_28 ?_
      refine lv_iload_n hx hb dX1_setRule_31 rfl (lv_at hl 2 rfl) ?_
      refine lv_iload_n hx hb dX1_setRule_32 rfl (lv_at hl 3 rfl) ?_
      obtain ⟨a_21, ea_21, hga_21⟩ := ob hf
      have hla_21 := hl
      have Ia_21 := I
      subst ea_21
      have hf := hga_21
      have hl := hla_21
      have I := Ia_21
      obtain ⟨σ_22, eσ_22, hf⟩ := ob hf
      refine g_iast X I eσ_22 dX1_setRule_33 (fun H locs I => ?_)
      refine lv_iload_n hx hb dX1_setRule_34 rfl (lv_at hl 0 rfl) ?_
      cases os hf
      exact x_ret (r_iret X I dX1_setRule_35)
    · have hf := se_r hgv_12
      obtain ⟨uq_15, eq_15, hf⟩ := ob hf
      cases os hf
      refine cx_thr I (xr_S (σ' := σ_13) (rest := []) (As := [.int v_10]) X I (mX1_require hX hS ev_12) lvX1_158 hdX1_158 ⟨Nat.le_trans (Nat.le_of_ble_eq_true rfl) hR.1, Nat.le_trans (Nat.le_of_ble_eq_true rfl) hR.2⟩ rfl hl.1 rfl (Nat.le_of_ble_eq_true rfl) dX1_setRule_21) (fun H locs cells slots I => ?_)
      exact x_out X XH rfl I eq_15
  · have hf := se_r hgv_2
    obtain ⟨uq_5, eq_5, hf⟩ := ob hf
    cases os hf
    refine cx_thr I (xr_V (vw := (RX1, TX1, 7)) (ci := 0) (σ' := σ_3) (rest := []) (As := [.int x1]) X I eu_1 rfl (mX1_rule hX hS ev_2) lvX1_481 hdX1_481 ⟨Nat.le_trans (Nat.le_of_ble_eq_true rfl) hR.1, Nat.le_trans (Nat.le_of_ble_eq_true rfl) hR.2⟩ rfl hl.1 rfl (Nat.le_of_ble_eq_true rfl) dX1_setRule_2) (fun H locs cells slots I => ?_)
    exact x_out X XH rfl I eq_5
theorem mX1_setRule {E : EV} {l : Launch} {N : Nat} {σ : St} {x0 : Nat} {x1 : Int32} {x2 : Int32} {res : ((Int32 ⊕ Nat) × St)} (hX : XK E) (hS : l.stackTraces = false) (hf : fX1_setRule N E.2.2.2.1 σ x0 x1 x2 = some res) : CX E l yX1_setRule (ws_ yX1_setRule cX1_setRule 4 (some .int)) 10 235 [.ref x0, .int x1, .int x2] σ (sv (fun v => (some (.int v))) res.1) (sx res.1) res.2 := by
  refine CX.of hX.1 (by decide) rfl rfl (Nat.le_of_ble_eq_true rfl) ?_
  intro p e s m below meth c X XH I ls hl
  exact wX1_setRule_0 hX ⟨Nat.le_refl _, Nat.le_refl _⟩ X XH hS N _ _ _ _ _ _ _ _ _ I hl hf
/-! SharedTaxisLaw.setRule(LSharedTaxis;II[J)I imp=True fuel=True kap=True rt=I thr=False -/
theorem lvX0_90 : GoodIn lw_all (wsV RX0 90 RX1 yX1_setRule (ws_ yX1_setRule cX1_setRule 4 (some .int))) := lw_V q2360 q2361 q2362 q113 q2363
theorem hdX0_90 : yX1_setRule.cls = RX1 ∧ yX1_setRule.cls ≠ "java/lang/invoke/MethodHandle" ∧ yX1_setRule.cls ≠ "java/lang/invoke/VarHandle" ∧ (parseMethodDescriptor yX1_setRule.desc).map (fun d => d.parameters.length) = some 2 := by decide +kernel
def fX0_setRule (N : Nat) (κ : Nat → Nat) (σ : St) (x0 : Nat) (x1 : Int32) (x2 : Int32) (x3 : Nat) : Option (Int32 × St) := (isC σ x0 0).bind fun u_1 : Unit => (fX1_setRule N κ σ x0 x1 x2).bind fun (v_2, σ_3) => se v_2 (fun v_4 => (sJ σ_3 x3 (0 : Int32) (v_4.toInt64)).bind fun σ_6 : St => some ((0 : Int32), σ_6)) (fun q_5 => (clsX σ_3 q_5).bind fun c_7 : Nat => if c_7 = 34 then some ((1 : Int32), σ_3) else if c_7 = 35 then some ((2 : Int32), σ_3) else none)
theorem wX0_setRule_0 {E : EV} {l : Launch} {p : Program} {e : Env} {s : State} {m : MethodId} {args : Array Value} {below : List Frame} {meth : Method} {c : Code} {R : Room} {res : (Int32 × St)} (hX : XK E) (hR : 11 ≤ R.frames ∧ 258 ≤ R.locals) (X : MX E p s m args meth c cX0_setRule 5 (some .int) RX0 "setRule") (XH : MH c [(0, 10, 13, 18), (0, 10, 17, 13)]) (hS : l.stackTraces = false) (N : Nat) : ∀ (x0 : Nat) (x1 : Int32) (x2 : Int32) (x3 : Nat) (σ : St) (H : Heap) (locs : List Loc) (cells slots : Nat) (ls : Array Slot), WI E R s σ H locs cells slots → lv_has ls 5 [(0, .ref x0), (1, .int x1), (2, .int x2), (3, .ref x3)] → fX0_setRule N E.2.2.2.1 σ x0 x1 x2 x3 = some res → W p l e R s m args below meth c H locs cells slots (vx_MQ below (QS E R.cells R.slots (some (some (.int res.1))) res.2) (XS E R.cells R.slots none res.2) args s R.cells R.slots (fr E)) (F0 m 0 ls []) := by
  intro x0 x1 x2 x3 σ H locs cells slots ls I hl hf
  obtain ⟨⟨hx, hb, hml, hown, hts⟩, -⟩ := id X
  unfold fX0_setRule at hf
  refine lv_aload_n hx hb dX0_setRule_0 rfl (lv_at hl 3 rfl) ?_
  refine lv_iconst (v := 0) hx hb dX0_setRule_1 (by decide) ?_
  refine lv_aload_n hx hb dX0_setRule_2 rfl (lv_at hl 0 rfl) ?_
  refine lv_iload_n hx hb dX0_setRule_3 rfl (lv_at hl 1 rfl) ?_
  refine lv_iload_n hx hb dX0_setRule_4 rfl (lv_at hl 2 rfl) ?_
  obtain ⟨u_1, eu_1, hf⟩ := ob hf
  obtain ⟨⟨v_2, σ_3⟩, ev_2, hf⟩ := ob hf
  have hgv_2 := hf
  rcases v_2 with v_4 | q_5
  · have hf := se_l hgv_2
    refine cx_ret (r := (some (.int v_4))) (rs := [.int v_4, .int (0 : Int32), .ref x3]) I (xr_V (vw := (RX1, TX1, 7)) (ci := 0) (σ' := σ_3) (rest := [.int (0 : Int32), .ref x3]) (As := [.int x1, .int x2]) X I eu_1 rfl (mX1_setRule hX hS ev_2) lvX0_90 hdX0_90 ⟨Nat.le_trans (Nat.le_of_ble_eq_true rfl) hR.1, Nat.le_trans (Nat.le_of_ble_eq_true rfl) hR.2⟩ rfl hl.1 rfl (Nat.le_of_ble_eq_true rfl) dX0_setRule_5) rfl (fun H locs cells slots I => ?_)
    refine lv_i2l hx hb dX0_setRule_8 rfl ?_
    obtain ⟨σ_6, eσ_6, hf⟩ := ob hf
    refine g_last X I eσ_6 dX0_setRule_9 (fun H locs I => ?_)
    refine lv_goto (tgt := 21) hx hb dX0_setRule_10 (by decide) ?_
    refine lv_iconst (v := 0) hx hb dX0_setRule_21 (by decide) ?_
    cases os hf
    exact x_ret (r_iret X I dX0_setRule_22)
  · have hf := se_r hgv_2
    obtain ⟨c_7, ec_7, hf⟩ := ob hf
    refine cx_thr I (xr_V (vw := (RX1, TX1, 7)) (ci := 0) (σ' := σ_3) (rest := [.int (0 : Int32), .ref x3]) (As := [.int x1, .int x2]) X I eu_1 rfl (mX1_setRule hX hS ev_2) lvX0_90 hdX0_90 ⟨Nat.le_trans (Nat.le_of_ble_eq_true rfl) hR.1, Nat.le_trans (Nat.le_of_ble_eq_true rfl) hR.2⟩ rfl hl.1 rfl (Nat.le_of_ble_eq_true rfl) dX0_setRule_5) (fun H locs cells slots I => ?_)
    by_cases cc_7_E22 : c_7 = 34
    · have hf := ip cc_7_E22 hf
      refine x_catch (vw := (RJ22, TJ22, 0)) hX X XH I (cc_7_E22 ▸ ec_7) rfl ((tableOf [(0, 10, 13, 18), (0, 10, 17, 13)]).take 0) _ _ rfl (fun z hz => nomatch hz) rfl (by decide) q1558 q417 ?_
      refine lv_astore (lv' := [(4, .ref q_5), (0, .ref x0), (1, .int x1), (2, .int x2), (3, .ref x3)]) hx hb dX0_setRule_13 hl (by decide) rfl (fun ls hl => ?_)
      refine lv_iconst (v := 1) hx hb dX0_setRule_15 (by decide) ?_
      cases os hf
      exact x_ret (r_iret X I dX0_setRule_16)
    · have hf := im cc_7_E22 hf
      by_cases cc_7_E7 : c_7 = 35
      · have hf := ip cc_7_E7 hf
        refine x_catch (vw := (RJ7, TJ7, 0)) hX X XH I (cc_7_E7 ▸ ec_7) rfl ((tableOf [(0, 10, 13, 18), (0, 10, 17, 13)]).take 1) _ _ rfl (List.forall_mem_cons.mpr ⟨Or.inr ⟨by decide, _, q1558, List.mem_of_getElem? (i := 0) rfl⟩, (fun z hz => nomatch hz)⟩) rfl (by decide) q1197 q723 ?_
        refine lv_astore (lv' := [(4, .ref q_5), (0, .ref x0), (1, .int x1), (2, .int x2), (3, .ref x3)]) hx hb dX0_setRule_17 hl (by decide) rfl (fun ls hl => ?_)
        refine lv_iconst (v := 2) hx hb dX0_setRule_19 (by decide) ?_
        cases os hf
        exact x_ret (r_iret X I dX0_setRule_20)
      · have hf := im cc_7_E7 hf
        exact nomatch hf
theorem mX0_setRule {E : EV} {l : Launch} {N : Nat} {σ : St} {x0 : Nat} {x1 : Int32} {x2 : Int32} {x3 : Nat} {res : (Int32 × St)} (hX : XK E) (hS : l.stackTraces = false) (hf : fX0_setRule N E.2.2.2.1 σ x0 x1 x2 x3 = some res) : CX E l yX0_setRule (wsW_ yX0_setRule cX0_setRule 5 (some .int) [(0, 10, 13, 18), (0, 10, 17, 13)]) 11 258 [.ref x0, .int x1, .int x2, .ref x3] σ (some (some (.int res.1))) none res.2 := by
  refine CX.ofH hX.1 (by decide) rfl rfl (Nat.le_of_ble_eq_true rfl) ?_
  intro p e s m below meth c X XH I ls hl
  exact wX0_setRule_0 hX ⟨Nat.le_refl _, Nat.le_refl _⟩ X XH hS N _ _ _ _ _ _ _ _ _ _ I hl hf
/-! java/lang/StringUTF16.putCharsAt([BICCCC)I imp=False fuel=False kap=True rt=I thr=False -/
def fJ11_putCharsAt (κ : Nat → Nat) (σ : St) (x0 : Nat) (x1 : Int32) (x2 : Int32) (x3 : Int32) (x4 : Int32) (x5 : Int32) : Option Int32 := lt (x1 + (4 : Int32)) fun x6_1 : Int32 => (fJ11_checkBoundsBeginEnd κ σ x1 x6_1 x0).bind fun v_2 : Unit => lt (x1 + 1) fun x1_4 : Int32 => (fJ11_putChar σ x0 x1 x2).bind fun v_5 : Unit => lt (x1_4 + 1) fun x1_7 : Int32 => (fJ11_putChar σ x0 x1_4 x3).bind fun v_8 : Unit => lt (x1_7 + 1) fun x1_10 : Int32 => (fJ11_putChar σ x0 x1_7 x4).bind fun v_11 : Unit => lt (x1_10 + 1) fun x1_13 : Int32 => (fJ11_putChar σ x0 x1_10 x5).bind fun v_14 : Unit => none
theorem wJ11_putCharsAt_0 {E : EV} {l : Launch} {p : Program} {e : Env} {s : State} {m : MethodId} {args : Array Value} {below : List Frame} {meth : Method} {c : Code} {R : Room} {σ : St} {res : Int32} (hX : XK E) (hR : 3 ≤ R.frames ∧ 67 ≤ R.locals) (X : MX E p s m args meth c cJ11_putCharsAt 7 (some .int) RJ11 "putCharsAt") : ∀ (x0 : Nat) (x1 : Int32) (x2 : Int32) (x3 : Int32) (x4 : Int32) (x5 : Int32) (H : Heap) (locs : List Loc) (cells slots : Nat) (ls : Array Slot), WI E R s σ H locs cells slots → lv_has ls 7 [(0, .ref x0), (1, .int x1), (2, .int x2), (3, .int x3), (4, .int x4), (5, .int x5)] → fJ11_putCharsAt E.2.2.2.1 σ x0 x1 x2 x3 x4 x5 = some res → W p l e R s m args below meth c H locs cells slots (MQ below (Qd E R.cells R.slots (some (.int res)) σ) args s R.cells R.slots (fr E)) (F0 m 0 ls []) := by
  intro x0 x1 x2 x3 x4 x5 H locs cells slots ls I hl hf
  obtain ⟨⟨hx, hb, hml, hown, hts⟩, -⟩ := id X
  unfold fJ11_putCharsAt at hf
  refine lv_iload_n hx hb dJ11_putCharsAt_0 rfl (lv_at hl 1 rfl) ?_
  refine lv_iconst (v := 4) hx hb dJ11_putCharsAt_1 (by decide) ?_
  refine lv_iadd hx hb dJ11_putCharsAt_2 ?_
  obtain ⟨x6_1, ex6_1, hf⟩ := ol hf
  refine nm_i ex6_1 ?_
  refine lv_istore (lv' := [(6, .int x6_1), (0, .ref x0), (1, .int x1), (2, .int x2), (3, .int x3), (4, .int x4), (5, .int x5)]) hx hb dJ11_putCharsAt_3 hl (by decide) rfl (fun ls hl => ?_)
  refine lv_iload_n hx hb dJ11_putCharsAt_5 rfl (lv_at hl 2 rfl) ?_
  refine lv_iload hx hb dJ11_putCharsAt_6 (lv_at hl 0 rfl) ?_
  refine lv_aload_n hx hb dJ11_putCharsAt_8 rfl (lv_at hl 1 rfl) ?_
  obtain ⟨v_2, ev_2, hf⟩ := ob hf
  refine cg_S (r := none) (σ' := σ) (rs := []) (rest := []) (As := [.int x1, .int x6_1, .ref x0]) X I (mJ11_checkBoundsBeginEnd hX ev_2) lvJ11_96 hdJ11_96 ⟨Nat.le_trans (Nat.le_of_ble_eq_true rfl) hR.1, Nat.le_trans (Nat.le_of_ble_eq_true rfl) hR.2⟩ rfl hl.1 rfl (Nat.le_of_ble_eq_true rfl) rfl dJ11_putCharsAt_9 (fun H locs cells slots I => ?_)
  refine lv_aload_n hx hb dJ11_putCharsAt_12 rfl (lv_at hl 1 rfl) ?_
  refine lv_iload_n hx hb dJ11_putCharsAt_13 rfl (lv_at hl 2 rfl) ?_
  obtain ⟨x1_4, ex1_4, hf⟩ := ol hf
  refine lv_iinc (v := x1_4) (lv' := [(1, .int x1_4), (6, .int x6_1), (0, .ref x0), (2, .int x2), (3, .int x3), (4, .int x4), (5, .int x5)]) hx hb dJ11_putCharsAt_14 hl (k := 2) rfl ex1_4 (by decide) rfl (fun ls hl => ?_)
  refine lv_iload_n hx hb dJ11_putCharsAt_17 rfl (lv_at hl 3 rfl) ?_
  obtain ⟨v_5, ev_5, hf⟩ := ob hf
  refine cg_S (r := none) (σ' := σ) (rs := []) (rest := []) (As := [.ref x0, .int x1, .int x2]) X I (mJ11_putChar hX ev_5) lvJ11_111 hdJ11_111 ⟨Nat.le_trans (Nat.le_of_ble_eq_true rfl) hR.1, Nat.le_trans (Nat.le_of_ble_eq_true rfl) hR.2⟩ rfl hl.1 rfl (Nat.le_of_ble_eq_true rfl) rfl dJ11_putCharsAt_18 (fun H locs cells slots I => ?_)
  refine lv_aload_n hx hb dJ11_putCharsAt_21 rfl (lv_at hl 2 rfl) ?_
  refine lv_iload_n hx hb dJ11_putCharsAt_22 rfl (lv_at hl 0 rfl) ?_
  obtain ⟨x1_7, ex1_7, hf⟩ := ol hf
  refine lv_iinc (v := x1_7) (lv' := [(1, .int x1_7), (6, .int x6_1), (0, .ref x0), (2, .int x2), (3, .int x3), (4, .int x4), (5, .int x5)]) hx hb dJ11_putCharsAt_23 hl (k := 0) rfl ex1_7 (by decide) rfl (fun ls hl => ?_)
  refine lv_iload_n hx hb dJ11_putCharsAt_26 rfl (lv_at hl 4 rfl) ?_
  obtain ⟨v_8, ev_8, hf⟩ := ob hf
  refine cg_S (r := none) (σ' := σ) (rs := []) (rest := []) (As := [.ref x0, .int x1_4, .int x3]) X I (mJ11_putChar hX ev_8) lvJ11_111 hdJ11_111 ⟨Nat.le_trans (Nat.le_of_ble_eq_true rfl) hR.1, Nat.le_trans (Nat.le_of_ble_eq_true rfl) hR.2⟩ rfl hl.1 rfl (Nat.le_of_ble_eq_true rfl) rfl dJ11_putCharsAt_27 (fun H locs cells slots I => ?_)
  refine lv_aload_n hx hb dJ11_putCharsAt_30 rfl (lv_at hl 2 rfl) ?_
  refine lv_iload_n hx hb dJ11_putCharsAt_31 rfl (lv_at hl 0 rfl) ?_
  obtain ⟨x1_10, ex1_10, hf⟩ := ol hf
  refine lv_iinc (v := x1_10) (lv' := [(1, .int x1_10), (6, .int x6_1), (0, .ref x0), (2, .int x2), (3, .int x3), (4, .int x4), (5, .int x5)]) hx hb dJ11_putCharsAt_32 hl (k := 0) rfl ex1_10 (by decide) rfl (fun ls hl => ?_)
  refine lv_iload hx hb dJ11_putCharsAt_35 (lv_at hl 5 rfl) ?_
  obtain ⟨v_11, ev_11, hf⟩ := ob hf
  refine cg_S (r := none) (σ' := σ) (rs := []) (rest := []) (As := [.ref x0, .int x1_7, .int x4]) X I (mJ11_putChar hX ev_11) lvJ11_111 hdJ11_111 ⟨Nat.le_trans (Nat.le_of_ble_eq_true rfl) hR.1, Nat.le_trans (Nat.le_of_ble_eq_true rfl) hR.2⟩ rfl hl.1 rfl (Nat.le_of_ble_eq_true rfl) rfl dJ11_putCharsAt_37 (fun H locs cells slots I => ?_)
  refine lv_aload_n hx hb dJ11_putCharsAt_40 rfl (lv_at hl 2 rfl) ?_
  refine lv_iload_n hx hb dJ11_putCharsAt_41 rfl (lv_at hl 0 rfl) ?_
  obtain ⟨x1_13, ex1_13, hf⟩ := ol hf
  refine lv_iinc (v := x1_13) (lv' := [(1, .int x1_13), (6, .int x6_1), (0, .ref x0), (2, .int x2), (3, .int x3), (4, .int x4), (5, .int x5)]) hx hb dJ11_putCharsAt_42 hl (k := 0) rfl ex1_13 (by decide) rfl (fun ls hl => ?_)
  refine lv_iload hx hb dJ11_putCharsAt_45 (lv_at hl 6 rfl) ?_
  obtain ⟨v_14, ev_14, hf⟩ := ob hf
  refine cg_S (r := none) (σ' := σ) (rs := []) (rest := []) (As := [.ref x0, .int x1_10, .int x5]) X I (mJ11_putChar hX ev_14) lvJ11_111 hdJ11_111 ⟨Nat.le_trans (Nat.le_of_ble_eq_true rfl) hR.1, Nat.le_trans (Nat.le_of_ble_eq_true rfl) hR.2⟩ rfl hl.1 rfl (Nat.le_of_ble_eq_true rfl) rfl dJ11_putCharsAt_47 (fun H locs cells slots I => ?_)
  exact nomatch hf
theorem mJ11_putCharsAt {E : EV} {l : Launch} {σ : St} {x0 : Nat} {x1 : Int32} {x2 : Int32} {x3 : Int32} {x4 : Int32} {x5 : Int32} {res : Int32} (hX : XK E) (hf : fJ11_putCharsAt E.2.2.2.1 σ x0 x1 x2 x3 x4 x5 = some res) : CM E l yJ11_putCharsAt (ws_ yJ11_putCharsAt cJ11_putCharsAt 7 (some .int)) 3 67 [.ref x0, .int x1, .int x2, .int x3, .int x4, .int x5] σ (some (.int res)) σ := by
  refine CM.of hX.1 (by decide) rfl rfl (Nat.le_of_ble_eq_true rfl) ?_
  intro p e s m below meth c X I ls hl
  exact wJ11_putCharsAt_0 hX ⟨Nat.le_refl _, Nat.le_refl _⟩ X _ _ _ _ _ _ _ _ _ _ _ I hl hf
/-! java/lang/AbstractStringBuilder.appendNull()Ljava/lang/AbstractStringBuilder; imp=True fuel=False kap=True rt=N thr=False -/
theorem lvJ8_226 : GoodIn lw_all (va_wsS RJ8 226 yJ11_putCharsAt (ws_ yJ11_putCharsAt cJ11_putCharsAt 7 (some .int))) := lw_S q590 q591 q130 q592
theorem hdJ8_226 : yJ11_putCharsAt.cls ≠ "java/lang/invoke/MethodHandle" ∧ yJ11_putCharsAt.cls ≠ "java/lang/invoke/VarHandle" ∧ (parseMethodDescriptor yJ11_putCharsAt.desc).map (fun d => d.parameters.length) = some 6 := by decide +kernel
def fJ8_appendNull (κ : Nat → Nat) (σ : St) (x0 : Nat) : Option (Nat × St) := (gI σ x0 [(25, 3)]).bind fun v_1 : Int32 => (isC σ x0 25).bind fun u_2 : Unit => (fJ8_ensureCapacityInternal σ x0 (v_1 + (4 : Int32))).bind fun σ_4 : St => (gI σ_4 x0 [(25, 3)]).bind fun v_5 : Int32 => (gR σ_4 x0 [(25, 0)]).bind fun v_6 : Option Nat => (isC σ_4 x0 25).bind fun u_7 : Unit => (fJ8_isLatin1 κ σ_4 x0).bind fun v_8 : Int32 => if v_8 = 0 then (v_6).bind fun a_10 : Nat => (fJ11_putCharsAt κ σ_4 a_10 v_5 (110 : Int32) (117 : Int32) (108 : Int32) (108 : Int32)).bind fun v_11 : Int32 => (pV σ_4 x0 [(25, 3)] (.int v_11)).bind fun σ_13 : St => some ((x0), σ_13) else lt (v_5 + 1) fun x1_14 : Int32 => (v_6).bind fun a_15 : Nat => (sI σ_4 a_15 1 v_5 ((110 : Int32).toInt8.toInt32)).bind fun σ_16 : St => lt (x1_14 + 1) fun x1_17 : Int32 => (sI σ_16 a_15 1 x1_14 ((117 : Int32).toInt8.toInt32)).bind fun σ_18 : St => lt (x1_17 + 1) fun x1_19 : Int32 => (sI σ_18 a_15 1 x1_17 ((108 : Int32).toInt8.toInt32)).bind fun σ_20 : St => lt (x1_19 + 1) fun x1_21 : Int32 => (sI σ_20 a_15 1 x1_19 ((108 : Int32).toInt8.toInt32)).bind fun σ_22 : St => (pV σ_22 x0 [(25, 3)] (.int x1_21)).bind fun σ_23 : St => some ((x0), σ_23)
theorem wJ8_appendNull_0 {E : EV} {l : Launch} {p : Program} {e : Env} {s : State} {m : MethodId} {args : Array Value} {below : List Frame} {meth : Method} {c : Code} {R : Room} {res : (Nat × St)} (hX : XK E) (hR : 4 ≤ R.frames ∧ 93 ≤ R.locals) (X : MX E p s m args meth c cJ8_appendNull 3 (some (.object "java/lang/AbstractStringBuilder")) RJ8 "appendNull") : ∀ (x0 : Nat) (σ : St) (H : Heap) (locs : List Loc) (cells slots : Nat) (ls : Array Slot), WI E R s σ H locs cells slots → lv_has ls 3 [(0, .ref x0)] → fJ8_appendNull E.2.2.2.1 σ x0 = some res → W p l e R s m args below meth c H locs cells slots (MQ below (Qd E R.cells R.slots (some (.ref res.1)) res.2) args s R.cells R.slots (fr E)) (F0 m 0 ls []) := by
  intro x0 σ H locs cells slots ls I hl hf
  obtain ⟨⟨hx, hb, hml, hown, hts⟩, -⟩ := id X
  unfold fJ8_appendNull at hf
  refine lv_aload_n hx hb dJ8_appendNull_0 rfl (lv_at hl 0 rfl) ?_
  refine lv_aload_n hx hb dJ8_appendNull_1 rfl (lv_at hl 0 rfl) ?_
  obtain ⟨v_1, ev_1, hf⟩ := ob hf
  refine g_get X I gfJ8_79 (gI_in ev_1) dJ8_appendNull_2 ?_
  refine lv_iconst (v := 4) hx hb dJ8_appendNull_5 (by decide) ?_
  refine lv_iadd hx hb dJ8_appendNull_6 ?_
  obtain ⟨u_2, eu_2, hf⟩ := ob hf
  obtain ⟨σ_4, ev_3, hf⟩ := ob hf
  refine cg_UP (r := none) (σ' := σ_4) (rs := []) (rest := []) (As := [.int (v_1 + (4 : Int32))]) hX X I eu_2 (mJ8_ensureCapacityInternal hX ev_3) lvJ8_100 hdJ8_100 ⟨Nat.le_trans (Nat.le_of_ble_eq_true rfl) hR.1, Nat.le_trans (Nat.le_of_ble_eq_true rfl) hR.2⟩ rfl hl.1 rfl (Nat.le_of_ble_eq_true rfl) rfl dJ8_appendNull_7 (fun H locs cells slots I => ?_)
  refine lv_aload_n hx hb dJ8_appendNull_10 rfl (lv_at hl 0 rfl) ?_
  obtain ⟨v_5, ev_5, hf⟩ := ob hf
  refine g_get X I gfJ8_79 (gI_in ev_5) dJ8_appendNull_11 ?_
  refine lv_istore_n (lv' := [(1, .int v_5), (0, .ref x0)]) hx hb dJ8_appendNull_14 rfl hl (by decide) rfl (fun ls hl => ?_)
  refine lv_aload_n hx hb dJ8_appendNull_15 rfl (lv_at hl 1 rfl) ?_
  obtain ⟨v_6, ev_6, hf⟩ := ob hf
  refine g_get X I gfJ8_15 (gR_in ev_6) dJ8_appendNull_16 ?_
  refine lo_astore_n (x := v_6) (lv' := [(2, va_rf v_6), (1, .int v_5), (0, .ref x0)]) hx hb dJ8_appendNull_19 rfl hl (by decide) rfl (fun ls hl => ?_)
  refine lv_aload_n hx hb dJ8_appendNull_20 rfl (lv_at hl 2 rfl) ?_
  obtain ⟨u_7, eu_7, hf⟩ := ob hf
  obtain ⟨v_8, ev_8, hf⟩ := ob hf
  refine cg_U (vw := (RJ9, TJ9, 4)) (ci := 25) (r := (some (.int v_8))) (σ' := σ_4) (rs := [.int v_8]) (rest := []) (As := []) X I eu_7 rfl (mJ8_isLatin1 hX ev_8) lvJ8_83 hdJ8_83 ⟨Nat.le_trans (Nat.le_of_ble_eq_true rfl) hR.1, Nat.le_trans (Nat.le_of_ble_eq_true rfl) hR.2⟩ rfl hl.1 rfl (Nat.le_of_ble_eq_true rfl) rfl dJ8_appendNull_21 (fun H locs cells slots I => ?_)
  refine lv_if_eq (tgt := 62) hx hb dJ8_appendNull_24 (by decide) (fun c_24 => ?_) (fun c_24 => ?_)
  · have hf := ip c_24 hf
    refine lo_aload_n (x := v_6) hx hb dJ8_appendNull_62 rfl (lv_at hl 0 rfl) ?_
    refine lv_iload_n hx hb dJ8_appendNull_63 rfl (lv_at hl 1 rfl) ?_
    refine lv_bipush (v := 110) hx hb dJ8_appendNull_64 (by decide) ?_
    refine lv_bipush (v := 117) hx hb dJ8_appendNull_66 (by decide) ?_
    refine lv_bipush (v := 108) hx hb dJ8_appendNull_68 (by decide) ?_
    refine lv_bipush (v := 108) hx hb dJ8_appendNull_70 (by decide) ?_
    obtain ⟨a_10, ea_10, hga_10⟩ := ob hf
    have hla_10 := hl
    have Ia_10 := I
    subst ea_10
    have hf := hga_10
    have hl := hla_10
    have I := Ia_10
    obtain ⟨v_11, ev_11, hf⟩ := ob hf
    refine cg_S (r := (some (.int v_11))) (σ' := σ_4) (rs := [.int v_11]) (rest := []) (As := [.ref a_10, .int v_5, .int (110 : Int32), .int (117 : Int32), .int (108 : Int32), .int (108 : Int32)]) X I (mJ11_putCharsAt hX ev_11) lvJ8_226 hdJ8_226 ⟨Nat.le_trans (Nat.le_of_ble_eq_true rfl) hR.1, Nat.le_trans (Nat.le_of_ble_eq_true rfl) hR.2⟩ rfl hl.1 rfl (Nat.le_of_ble_eq_true rfl) rfl dJ8_appendNull_72 (fun H locs cells slots I => ?_)
    refine lv_istore_n (lv' := [(1, .int v_11), (2, .ref a_10), (0, .ref x0)]) hx hb dJ8_appendNull_75 rfl hl (by decide) rfl (fun ls hl => ?_)
    refine lv_aload_n hx hb dJ8_appendNull_76 rfl (lv_at hl 2 rfl) ?_
    refine lv_iload_n hx hb dJ8_appendNull_77 rfl (lv_at hl 0 rfl) ?_
    obtain ⟨σ_13, eσ_13, hf⟩ := ob hf
    refine g_put X I pfJ8_79 rfl rfl eσ_13 dJ8_appendNull_78 (fun H locs I => ?_)
    refine lv_aload_n hx hb dJ8_appendNull_81 rfl (lv_at hl 2 rfl) ?_
    cases os hf
    exact r_aret X I (Or.inl ⟨_, rfl⟩) (Or.inr ⟨_, rfl⟩) dJ8_appendNull_82
  · have hf := im c_24 hf
    refine lo_aload_n (x := v_6) hx hb dJ8_appendNull_27 rfl (lv_at hl 0 rfl) ?_
    refine lv_iload_n hx hb dJ8_appendNull_28 rfl (lv_at hl 1 rfl) ?_
    obtain ⟨x1_14, ex1_14, hf⟩ := ol hf
    refine lv_iinc (v := x1_14) (lv' := [(1, .int x1_14), (2, va_rf v_6), (0, .ref x0)]) hx hb dJ8_appendNull_29 hl (k := 1) rfl ex1_14 (by decide) rfl (fun ls hl => ?_)
    refine lv_bipush (v := 110) hx hb dJ8_appendNull_32 (by decide) ?_
    obtain ⟨a_15, ea_15, hga_15⟩ := ob hf
    have hla_15 := hl
    have Ia_15 := I
    subst ea_15
    have hf := hga_15
    have hl := hla_15
    have I := Ia_15
    obtain ⟨σ_16, eσ_16, hf⟩ := ob hf
    refine g_bast X I rfl eσ_16 dJ8_appendNull_34 (fun H locs I => ?_)
    refine lv_aload_n hx hb dJ8_appendNull_35 rfl (lv_at hl 1 rfl) ?_
    refine lv_iload_n hx hb dJ8_appendNull_36 rfl (lv_at hl 0 rfl) ?_
    obtain ⟨x1_17, ex1_17, hf⟩ := ol hf
    refine lv_iinc (v := x1_17) (lv' := [(1, .int x1_17), (2, .ref a_15), (0, .ref x0)]) hx hb dJ8_appendNull_37 hl (k := 0) rfl ex1_17 (by decide) rfl (fun ls hl => ?_)
    refine lv_bipush (v := 117) hx hb dJ8_appendNull_40 (by decide) ?_
    obtain ⟨σ_18, eσ_18, hf⟩ := ob hf
    refine g_bast X I rfl eσ_18 dJ8_appendNull_42 (fun H locs I => ?_)
    refine lv_aload_n hx hb dJ8_appendNull_43 rfl (lv_at hl 1 rfl) ?_
    refine lv_iload_n hx hb dJ8_appendNull_44 rfl (lv_at hl 0 rfl) ?_
    obtain ⟨x1_19, ex1_19, hf⟩ := ol hf
    refine lv_iinc (v := x1_19) (lv' := [(1, .int x1_19), (2, .ref a_15), (0, .ref x0)]) hx hb dJ8_appendNull_45 hl (k := 0) rfl ex1_19 (by decide) rfl (fun ls hl => ?_)
    refine lv_bipush (v := 108) hx hb dJ8_appendNull_48 (by decide) ?_
    obtain ⟨σ_20, eσ_20, hf⟩ := ob hf
    refine g_bast X I rfl eσ_20 dJ8_appendNull_50 (fun H locs I => ?_)
    refine lv_aload_n hx hb dJ8_appendNull_51 rfl (lv_at hl 1 rfl) ?_
    refine lv_iload_n hx hb dJ8_appendNull_52 rfl (lv_at hl 0 rfl) ?_
    obtain ⟨x1_21, ex1_21, hf⟩ := ol hf
    refine lv_iinc (v := x1_21) (lv' := [(1, .int x1_21), (2, .ref a_15), (0, .ref x0)]) hx hb dJ8_appendNull_53 hl (k := 0) rfl ex1_21 (by decide) rfl (fun ls hl => ?_)
    refine lv_bipush (v := 108) hx hb dJ8_appendNull_56 (by decide) ?_
    obtain ⟨σ_22, eσ_22, hf⟩ := ob hf
    refine g_bast X I rfl eσ_22 dJ8_appendNull_58 (fun H locs I => ?_)
    refine lv_goto (tgt := 76) hx hb dJ8_appendNull_59 (by decide) ?_
    refine lv_aload_n hx hb dJ8_appendNull_76 rfl (lv_at hl 2 rfl) ?_
    refine lv_iload_n hx hb dJ8_appendNull_77 rfl (lv_at hl 0 rfl) ?_
    obtain ⟨σ_23, eσ_23, hf⟩ := ob hf
    refine g_put X I pfJ8_79 rfl rfl eσ_23 dJ8_appendNull_78 (fun H locs I => ?_)
    refine lv_aload_n hx hb dJ8_appendNull_81 rfl (lv_at hl 2 rfl) ?_
    cases os hf
    exact r_aret X I (Or.inl ⟨_, rfl⟩) (Or.inr ⟨_, rfl⟩) dJ8_appendNull_82
theorem mJ8_appendNull {E : EV} {l : Launch} {σ : St} {x0 : Nat} {res : (Nat × St)} (hX : XK E) (hf : fJ8_appendNull E.2.2.2.1 σ x0 = some res) : CM E l yJ8_appendNull (ws_ yJ8_appendNull cJ8_appendNull 3 (some (.object "java/lang/AbstractStringBuilder"))) 4 93 [.ref x0] σ (some (.ref res.1)) res.2 := by
  refine CM.of hX.1 (by decide) rfl rfl (Nat.le_of_ble_eq_true rfl) ?_
  intro p e s m below meth c X I ls hl
  exact wJ8_appendNull_0 hX ⟨Nat.le_refl _, Nat.le_refl _⟩ X _ _ _ _ _ _ _ I hl hf
/-! java/lang/AbstractStringBuilder.inflateIfNeededFor(Ljava/lang/String;)V imp=True fuel=True kap=True rt=None thr=False -/
theorem lvJ8_40 : GoodIn lw_all (wsV RJ8 40 RJ10 yJ10_coder (ws_ yJ10_coder cJ10_coder 1 (some .byte))) := lw_V q633 q621 q622 q129 q623
theorem hdJ8_40 : yJ10_coder.cls = RJ10 ∧ yJ10_coder.cls ≠ "java/lang/invoke/MethodHandle" ∧ yJ10_coder.cls ≠ "java/lang/invoke/VarHandle" ∧ (parseMethodDescriptor yJ10_coder.desc).map (fun d => d.parameters.length) = some 0 := by decide +kernel
def fJ8_inflateIfNeededFor (N : Nat) (κ : Nat → Nat) (σ : St) (x0 : Nat) (x1 : Nat) : Option St := if (1 : Int32) = 0 then some σ else (gI σ x0 [(25, 1)]).bind fun v_1 : Int32 => (isC σ x1 26).bind fun u_2 : Unit => (fJ10_coder κ σ x1).bind fun v_3 : Int32 => if v_1 = v_3 then some σ else (isC σ x0 25).bind fun u_5 : Unit => (fJ8_inflate N κ σ x0).bind fun σ_7 : St => some σ_7
theorem wJ8_inflateIfNeededFor_0 {E : EV} {l : Launch} {p : Program} {e : Env} {s : State} {m : MethodId} {args : Array Value} {below : List Frame} {meth : Method} {c : Code} {R : Room} {res : St} (hX : XK E) (hR : 6 ≤ R.frames ∧ 137 ≤ R.locals) (X : MX E p s m args meth c cJ8_inflateIfNeededFor 2 none RJ8 "inflateIfNeededFor") (N : Nat) : ∀ (x0 : Nat) (x1 : Nat) (σ : St) (H : Heap) (locs : List Loc) (cells slots : Nat) (ls : Array Slot), WI E R s σ H locs cells slots → lv_has ls 2 [(0, .ref x0), (1, .ref x1)] → fJ8_inflateIfNeededFor N E.2.2.2.1 σ x0 x1 = some res → W p l e R s m args below meth c H locs cells slots (MQ below (Qd E R.cells R.slots none res) args s R.cells R.slots (fr E)) (F0 m 0 ls []) := by
  intro x0 x1 σ H locs cells slots ls I hl hf
  obtain ⟨⟨hx, hb, hml, hown, hts⟩, -⟩ := id X
  unfold fJ8_inflateIfNeededFor at hf
  refine g_gets (ref := "java/lang/String") (w := .int (1 : Int32)) hX X I (List.mem_of_getElem? (i := 0) rfl) rfl q515 dJ8_inflateIfNeededFor_0 ?_
  refine lv_if_eq (tgt := 21) hx hb dJ8_inflateIfNeededFor_3 (by decide) (fun c_3 => ?_) (fun c_3 => ?_)
  · have hf := ip c_3 hf
    cases os hf
    exact r_vret X I dJ8_inflateIfNeededFor_21
  · have hf := im c_3 hf
    refine lv_aload_n hx hb dJ8_inflateIfNeededFor_6 rfl (lv_at hl 0 rfl) ?_
    obtain ⟨v_1, ev_1, hf⟩ := ob hf
    refine g_get X I gfJ8_22 (gI_in ev_1) dJ8_inflateIfNeededFor_7 ?_
    refine lv_aload_n hx hb dJ8_inflateIfNeededFor_10 rfl (lv_at hl 1 rfl) ?_
    obtain ⟨u_2, eu_2, hf⟩ := ob hf
    obtain ⟨v_3, ev_3, hf⟩ := ob hf
    refine cg_V (vw := (RJ10, TJ10, 4)) (ci := 26) (r := (some (.int v_3))) (σ' := σ) (rs := [.int v_3, .int v_1]) (rest := [.int v_1]) (As := []) X I eu_2 rfl (mJ10_coder hX ev_3) lvJ8_40 hdJ8_40 ⟨Nat.le_trans (Nat.le_of_ble_eq_true rfl) hR.1, Nat.le_trans (Nat.le_of_ble_eq_true rfl) hR.2⟩ rfl hl.1 rfl (Nat.le_of_ble_eq_true rfl) rfl dJ8_inflateIfNeededFor_11 (fun H locs cells slots I => ?_)
    refine lv_icmp_eq (tgt := 21) hx hb dJ8_inflateIfNeededFor_14 (by decide) (fun c_14 => ?_) (fun c_14 => ?_)
    · have hf := ip c_14 hf
      cases os hf
      exact r_vret X I dJ8_inflateIfNeededFor_21
    · have hf := im c_14 hf
      refine lv_aload_n hx hb dJ8_inflateIfNeededFor_17 rfl (lv_at hl 0 rfl) ?_
      obtain ⟨u_5, eu_5, hf⟩ := ob hf
      obtain ⟨σ_7, ev_6, hf⟩ := ob hf
      refine cg_UP (r := none) (σ' := σ_7) (rs := []) (rest := []) (As := []) hX X I eu_5 (mJ8_inflate hX ev_6) lvJ8_195 hdJ8_195 ⟨Nat.le_trans (Nat.le_of_ble_eq_true rfl) hR.1, Nat.le_trans (Nat.le_of_ble_eq_true rfl) hR.2⟩ rfl hl.1 rfl (Nat.le_of_ble_eq_true rfl) rfl dJ8_inflateIfNeededFor_18 (fun H locs cells slots I => ?_)
      cases os hf
      exact r_vret X I dJ8_inflateIfNeededFor_21
theorem mJ8_inflateIfNeededFor {E : EV} {l : Launch} {N : Nat} {σ : St} {x0 : Nat} {x1 : Nat} {res : St} (hX : XK E) (hf : fJ8_inflateIfNeededFor N E.2.2.2.1 σ x0 x1 = some res) : CM E l yJ8_inflateIfNeededFor (ws_ yJ8_inflateIfNeededFor cJ8_inflateIfNeededFor 2 none) 6 137 [.ref x0, .ref x1] σ none res := by
  refine CM.of hX.1 (by decide) rfl rfl (Nat.le_of_ble_eq_true rfl) ?_
  intro p e s m below meth c X I ls hl
  exact wJ8_inflateIfNeededFor_0 hX ⟨Nat.le_refl _, Nat.le_refl _⟩ X N _ _ _ _ _ _ _ _ I hl hf
/-! java/lang/String.getBytes([BIB)V imp=True fuel=True kap=True rt=None thr=False -/
theorem lvJ10_106 : GoodIn lw_all (va_wsS RJ10 106 yJ15_inflate (ws_ yJ15_inflate cJ15_inflate 5 none)) := lw_S q658 q639 q135 q640
theorem hdJ10_106 : yJ15_inflate.cls ≠ "java/lang/invoke/MethodHandle" ∧ yJ15_inflate.cls ≠ "java/lang/invoke/VarHandle" ∧ (parseMethodDescriptor yJ15_inflate.desc).map (fun d => d.parameters.length) = some 5 := by decide +kernel
def fJ10_getBytes (N : Nat) (κ : Nat → Nat) (σ : St) (x0 : Nat) (x1 : Nat) (x2 : Int32) (x3 : Int32) : Option St := (isC σ x0 26).bind fun u_1 : Unit => (fJ10_coder κ σ x0).bind fun v_2 : Int32 => if v_2 = x3 then (gR σ x0 [(26, 0)]).bind fun v_11 : Option Nat => (gR σ x0 [(26, 0)]).bind fun v_12 : Option Nat => (v_12).bind fun a_13 : Nat => (aL σ a_13).bind fun v_14 : Int32 => (v_11).bind fun a_15 : Nat => (cpI σ a_15 1 (0 : Int32) x1 (x2 <<< (x3 &&& 31)) v_14).bind fun σ_16 : St => some σ_16 else (gR σ x0 [(26, 0)]).bind fun v_4 : Option Nat => (gR σ x0 [(26, 0)]).bind fun v_5 : Option Nat => (v_5).bind fun a_6 : Nat => (aL σ a_6).bind fun v_7 : Int32 => (v_4).bind fun a_8 : Nat => (fJ15_inflate N κ σ a_8 (0 : Int32) x1 x2 v_7).bind fun v_9 : Unit => some σ
theorem wJ10_getBytes_0 {E : EV} {l : Launch} {p : Program} {e : Env} {s : State} {m : MethodId} {args : Array Value} {below : List Frame} {meth : Method} {c : Code} {R : Room} {res : St} (hX : XK E) (hR : 5 ≤ R.frames ∧ 116 ≤ R.locals) (X : MX E p s m args meth c cJ10_getBytes 4 none RJ10 "getBytes") (N : Nat) : ∀ (x0 : Nat) (x1 : Nat) (x2 : Int32) (x3 : Int32) (σ : St) (H : Heap) (locs : List Loc) (cells slots : Nat) (ls : Array Slot), WI E R s σ H locs cells slots → lv_has ls 4 [(0, .ref x0), (1, .ref x1), (2, .int x2), (3, .int x3)] → fJ10_getBytes N E.2.2.2.1 σ x0 x1 x2 x3 = some res → W p l e R s m args below meth c H locs cells slots (MQ below (Qd E R.cells R.slots none res) args s R.cells R.slots (fr E)) (F0 m 0 ls []) := by
  intro x0 x1 x2 x3 σ H locs cells slots ls I hl hf
  obtain ⟨⟨hx, hb, hml, hown, hts⟩, -⟩ := id X
  unfold fJ10_getBytes at hf
  refine lv_aload_n hx hb dJ10_getBytes_0 rfl (lv_at hl 0 rfl) ?_
  obtain ⟨u_1, eu_1, hf⟩ := ob hf
  obtain ⟨v_2, ev_2, hf⟩ := ob hf
  refine cg_V (vw := (RJ10, TJ10, 4)) (ci := 26) (r := (some (.int v_2))) (σ' := σ) (rs := [.int v_2]) (rest := []) (As := []) X I eu_1 rfl (mJ10_coder hX ev_2) lvJ10_335 hdJ10_335 ⟨Nat.le_trans (Nat.le_of_ble_eq_true rfl) hR.1, Nat.le_trans (Nat.le_of_ble_eq_true rfl) hR.2⟩ rfl hl.1 rfl (Nat.le_of_ble_eq_true rfl) rfl dJ10_getBytes_1 (fun H locs cells slots I => ?_)
  refine lv_iload_n hx hb dJ10_getBytes_4 rfl (lv_at hl 3 rfl) ?_
  refine lv_icmp_ne (tgt := 28) hx hb dJ10_getBytes_5 (by decide) (fun c_5 => ?_) (fun c_5 => ?_)
  · have hf := im c_5 hf
    refine lv_aload_n hx hb dJ10_getBytes_28 rfl (lv_at hl 0 rfl) ?_
    obtain ⟨v_4, ev_4, hf⟩ := ob hf
    refine g_get X I gfJ10_9 (gR_in ev_4) dJ10_getBytes_29 ?_
    refine lv_iconst (v := 0) hx hb dJ10_getBytes_32 (by decide) ?_
    refine lv_aload_n hx hb dJ10_getBytes_33 rfl (lv_at hl 1 rfl) ?_
    refine lv_iload_n hx hb dJ10_getBytes_34 rfl (lv_at hl 2 rfl) ?_
    refine lv_aload_n hx hb dJ10_getBytes_35 rfl (lv_at hl 0 rfl) ?_
    obtain ⟨v_5, ev_5, hf⟩ := ob hf
    refine g_get X I gfJ10_9 (gR_in ev_5) dJ10_getBytes_36 ?_
    obtain ⟨a_6, ea_6, hga_6⟩ := ob hf
    have hla_6 := hl
    have Ia_6 := I
    subst ea_6
    have hf := hga_6
    have hl := hla_6
    have I := Ia_6
    obtain ⟨v_7, ev_7, hf⟩ := ob hf
    refine g_alen X I ev_7 dJ10_getBytes_39 ?_
    obtain ⟨a_8, ea_8, hga_8⟩ := ob hf
    have hla_8 := hl
    have Ia_8 := I
    subst ea_8
    have hf := hga_8
    have hl := hla_8
    have I := Ia_8
    obtain ⟨v_9, ev_9, hf⟩ := ob hf
    refine cg_S (r := none) (σ' := σ) (rs := []) (rest := []) (As := [.ref a_8, .int (0 : Int32), .ref x1, .int x2, .int v_7]) X I (mJ15_inflate hX ev_9) lvJ10_106 hdJ10_106 ⟨Nat.le_trans (Nat.le_of_ble_eq_true rfl) hR.1, Nat.le_trans (Nat.le_of_ble_eq_true rfl) hR.2⟩ rfl hl.1 rfl (Nat.le_of_ble_eq_true rfl) rfl dJ10_getBytes_40 (fun H locs cells slots I => ?_)
    cases os hf
    exact r_vret X I dJ10_getBytes_43
  · have hf := ip c_5 hf
    refine lv_aload_n hx hb dJ10_getBytes_8 rfl (lv_at hl 0 rfl) ?_
    obtain ⟨v_11, ev_11, hf⟩ := ob hf
    refine g_get X I gfJ10_9 (gR_in ev_11) dJ10_getBytes_9 ?_
    refine lv_iconst (v := 0) hx hb dJ10_getBytes_12 (by decide) ?_
    refine lv_aload_n hx hb dJ10_getBytes_13 rfl (lv_at hl 1 rfl) ?_
    refine lv_iload_n hx hb dJ10_getBytes_14 rfl (lv_at hl 2 rfl) ?_
    refine lv_iload_n hx hb dJ10_getBytes_15 rfl (lv_at hl 3 rfl) ?_
    refine lv_ishl hx hb dJ10_getBytes_16 ?_
    refine lv_aload_n hx hb dJ10_getBytes_17 rfl (lv_at hl 0 rfl) ?_
    obtain ⟨v_12, ev_12, hf⟩ := ob hf
    refine g_get X I gfJ10_9 (gR_in ev_12) dJ10_getBytes_18 ?_
    obtain ⟨a_13, ea_13, hga_13⟩ := ob hf
    have hla_13 := hl
    have Ia_13 := I
    subst ea_13
    have hf := hga_13
    have hl := hla_13
    have I := Ia_13
    obtain ⟨v_14, ev_14, hf⟩ := ob hf
    refine g_alen X I ev_14 dJ10_getBytes_21 ?_
    obtain ⟨a_15, ea_15, hga_15⟩ := ob hf
    have hla_15 := hl
    have Ia_15 := I
    subst ea_15
    have hf := hga_15
    have hl := hla_15
    have I := Ia_15
    obtain ⟨σ_16, eσ_16, hf⟩ := ob hf
    refine g_copyI X I (by decide) q657 eσ_16 hl.1 ⟨Nat.le_trans (Nat.le_of_ble_eq_true rfl) hR.1, Nat.le_trans (Nat.le_of_ble_eq_true rfl) hR.2⟩ (Nat.le_of_ble_eq_true rfl) dJ10_getBytes_22 (fun H locs I => ?_)
    refine lv_goto (tgt := 43) hx hb dJ10_getBytes_25 (by decide) ?_
    cases os hf
    exact r_vret X I dJ10_getBytes_43
theorem mJ10_getBytes {E : EV} {l : Launch} {N : Nat} {σ : St} {x0 : Nat} {x1 : Nat} {x2 : Int32} {x3 : Int32} {res : St} (hX : XK E) (hf : fJ10_getBytes N E.2.2.2.1 σ x0 x1 x2 x3 = some res) : CM E l yJ10_getBytes (ws_ yJ10_getBytes cJ10_getBytes 4 none) 5 116 [.ref x0, .ref x1, .int x2, .int x3] σ none res := by
  refine CM.of hX.1 (by decide) rfl rfl (Nat.le_of_ble_eq_true rfl) ?_
  intro p e s m below meth c X I ls hl
  exact wJ10_getBytes_0 hX ⟨Nat.le_refl _, Nat.le_refl _⟩ X N _ _ _ _ _ _ _ _ _ _ I hl hf
/-! java/lang/AbstractStringBuilder.putStringAt(ILjava/lang/String;)V imp=True fuel=True kap=True rt=None thr=False -/
theorem lvJ8_397 : Cond.methodLink RJ8 397 yJ8_inflateIfNeededFor ∈ lw_all ∧ Cond.sameMethod yJ8_inflateIfNeededFor.cls yJ8_inflateIfNeededFor.cls yJ8_inflateIfNeededFor.name yJ8_inflateIfNeededFor.desc ∈ lw_all ∧ Cond.instanceMethod yJ8_inflateIfNeededFor ∈ lw_all ∧ Cond.initialized yJ8_inflateIfNeededFor.cls ∈ lw_all ∧ Cond.code yJ8_inflateIfNeededFor cJ8_inflateIfNeededFor 2 none ∈ lw_all ∧ yJ8_inflateIfNeededFor ∈ PVL := ⟨q629, q3342, q631, q127, q632, List.mem_of_getElem? (i := 3) rfl⟩
theorem hdJ8_397 : yJ8_inflateIfNeededFor.cls ≠ "java/lang/invoke/MethodHandle" ∧ yJ8_inflateIfNeededFor.cls ≠ "java/lang/invoke/VarHandle" ∧ (parseMethodDescriptor yJ8_inflateIfNeededFor.desc).map (fun d => d.parameters.length) = some 1 := by decide +kernel
theorem lvJ8_399 : GoodIn lw_all (wsV RJ8 399 RJ10 yJ10_getBytes (ws_ yJ10_getBytes cJ10_getBytes 4 none)) := lw_V q653 q654 q655 q129 q656
theorem hdJ8_399 : yJ10_getBytes.cls = RJ10 ∧ yJ10_getBytes.cls ≠ "java/lang/invoke/MethodHandle" ∧ yJ10_getBytes.cls ≠ "java/lang/invoke/VarHandle" ∧ (parseMethodDescriptor yJ10_getBytes.desc).map (fun d => d.parameters.length) = some 3 := by decide +kernel
def fJ8_putStringAt (N : Nat) (κ : Nat → Nat) (σ : St) (x0 : Nat) (x1 : Int32) (x2 : Nat) : Option St := (isC σ x0 25).bind fun u_1 : Unit => (fJ8_inflateIfNeededFor N κ σ x0 x2).bind fun σ_3 : St => (gR σ_3 x0 [(25, 0)]).bind fun v_4 : Option Nat => (gI σ_3 x0 [(25, 1)]).bind fun v_5 : Int32 => (v_4).bind fun a_6 : Nat => (isC σ_3 x2 26).bind fun u_7 : Unit => (fJ10_getBytes N κ σ_3 x2 a_6 x1 v_5).bind fun σ_9 : St => some σ_9
theorem wJ8_putStringAt_0 {E : EV} {l : Launch} {p : Program} {e : Env} {s : State} {m : MethodId} {args : Array Value} {below : List Frame} {meth : Method} {c : Code} {R : Room} {res : St} (hX : XK E) (hR : 7 ≤ R.frames ∧ 158 ≤ R.locals) (X : MX E p s m args meth c cJ8_putStringAt 3 none RJ8 "putStringAt") (N : Nat) : ∀ (x0 : Nat) (x1 : Int32) (x2 : Nat) (σ : St) (H : Heap) (locs : List Loc) (cells slots : Nat) (ls : Array Slot), WI E R s σ H locs cells slots → lv_has ls 3 [(0, .ref x0), (1, .int x1), (2, .ref x2)] → fJ8_putStringAt N E.2.2.2.1 σ x0 x1 x2 = some res → W p l e R s m args below meth c H locs cells slots (MQ below (Qd E R.cells R.slots none res) args s R.cells R.slots (fr E)) (F0 m 0 ls []) := by
  intro x0 x1 x2 σ H locs cells slots ls I hl hf
  obtain ⟨⟨hx, hb, hml, hown, hts⟩, -⟩ := id X
  unfold fJ8_putStringAt at hf
  refine lv_aload_n hx hb dJ8_putStringAt_0 rfl (lv_at hl 0 rfl) ?_
  refine lv_aload_n hx hb dJ8_putStringAt_1 rfl (lv_at hl 2 rfl) ?_
  obtain ⟨u_1, eu_1, hf⟩ := ob hf
  obtain ⟨σ_3, ev_2, hf⟩ := ob hf
  refine cg_UP (r := none) (σ' := σ_3) (rs := []) (rest := []) (As := [.ref x2]) hX X I eu_1 (mJ8_inflateIfNeededFor hX ev_2) lvJ8_397 hdJ8_397 ⟨Nat.le_trans (Nat.le_of_ble_eq_true rfl) hR.1, Nat.le_trans (Nat.le_of_ble_eq_true rfl) hR.2⟩ rfl hl.1 rfl (Nat.le_of_ble_eq_true rfl) rfl dJ8_putStringAt_2 (fun H locs cells slots I => ?_)
  refine lv_aload_n hx hb dJ8_putStringAt_5 rfl (lv_at hl 2 rfl) ?_
  refine lv_aload_n hx hb dJ8_putStringAt_6 rfl (lv_at hl 0 rfl) ?_
  obtain ⟨v_4, ev_4, hf⟩ := ob hf
  refine g_get X I gfJ8_15 (gR_in ev_4) dJ8_putStringAt_7 ?_
  refine lv_iload_n hx hb dJ8_putStringAt_10 rfl (lv_at hl 1 rfl) ?_
  refine lv_aload_n hx hb dJ8_putStringAt_11 rfl (lv_at hl 0 rfl) ?_
  obtain ⟨v_5, ev_5, hf⟩ := ob hf
  refine g_get X I gfJ8_22 (gI_in ev_5) dJ8_putStringAt_12 ?_
  obtain ⟨a_6, ea_6, hga_6⟩ := ob hf
  have hla_6 := hl
  have Ia_6 := I
  subst ea_6
  have hf := hga_6
  have hl := hla_6
  have I := Ia_6
  obtain ⟨u_7, eu_7, hf⟩ := ob hf
  obtain ⟨σ_9, ev_8, hf⟩ := ob hf
  refine cg_V (vw := (RJ10, TJ10, 4)) (ci := 26) (r := none) (σ' := σ_9) (rs := []) (rest := []) (As := [.ref a_6, .int x1, .int v_5]) X I eu_7 rfl (mJ10_getBytes hX ev_8) lvJ8_399 hdJ8_399 ⟨Nat.le_trans (Nat.le_of_ble_eq_true rfl) hR.1, Nat.le_trans (Nat.le_of_ble_eq_true rfl) hR.2⟩ rfl hl.1 rfl (Nat.le_of_ble_eq_true rfl) rfl dJ8_putStringAt_15 (fun H locs cells slots I => ?_)
  cases os hf
  exact r_vret X I dJ8_putStringAt_18
theorem mJ8_putStringAt {E : EV} {l : Launch} {N : Nat} {σ : St} {x0 : Nat} {x1 : Int32} {x2 : Nat} {res : St} (hX : XK E) (hf : fJ8_putStringAt N E.2.2.2.1 σ x0 x1 x2 = some res) : CM E l yJ8_putStringAt (ws_ yJ8_putStringAt cJ8_putStringAt 3 none) 7 158 [.ref x0, .int x1, .ref x2] σ none res := by
  refine CM.of hX.1 (by decide) rfl rfl (Nat.le_of_ble_eq_true rfl) ?_
  intro p e s m below meth c X I ls hl
  exact wJ8_putStringAt_0 hX ⟨Nat.le_refl _, Nat.le_refl _⟩ X N _ _ _ _ _ _ _ _ _ I hl hf
/-! java/lang/AbstractStringBuilder.append(Ljava/lang/String;)Ljava/lang/AbstractStringBuilder; imp=True fuel=True kap=True rt=N thr=False -/
theorem lvJ8_32 : GoodIn lw_all (wsV RJ8 32 RJ10 yJ10_length (ws_ yJ10_length cJ10_length 1 (some .int))) := lw_V q616 q617 q618 q129 q619
theorem hdJ8_32 : yJ10_length.cls = RJ10 ∧ yJ10_length.cls ≠ "java/lang/invoke/MethodHandle" ∧ yJ10_length.cls ≠ "java/lang/invoke/VarHandle" ∧ (parseMethodDescriptor yJ10_length.desc).map (fun d => d.parameters.length) = some 0 := by decide +kernel
theorem lvJ8_208 : Cond.methodLink RJ8 208 yJ8_putStringAt ∈ lw_all ∧ Cond.sameMethod yJ8_putStringAt.cls yJ8_putStringAt.cls yJ8_putStringAt.name yJ8_putStringAt.desc ∈ lw_all ∧ Cond.instanceMethod yJ8_putStringAt ∈ lw_all ∧ Cond.initialized yJ8_putStringAt.cls ∈ lw_all ∧ Cond.code yJ8_putStringAt cJ8_putStringAt 3 none ∈ lw_all ∧ yJ8_putStringAt ∈ PVL := ⟨q625, q3341, q627, q127, q628, List.mem_of_getElem? (i := 5) rfl⟩
theorem hdJ8_208 : yJ8_putStringAt.cls ≠ "java/lang/invoke/MethodHandle" ∧ yJ8_putStringAt.cls ≠ "java/lang/invoke/VarHandle" ∧ (parseMethodDescriptor yJ8_putStringAt.desc).map (fun d => d.parameters.length) = some 2 := by decide +kernel
def fJ8_append (N : Nat) (κ : Nat → Nat) (σ : St) (x0 : Nat) (x1 : Nat) : Option (Nat × St) := (isC σ x1 26).bind fun u_1 : Unit => (fJ10_length κ σ x1).bind fun v_2 : Int32 => (gI σ x0 [(25, 3)]).bind fun v_4 : Int32 => (isC σ x0 25).bind fun u_5 : Unit => (fJ8_ensureCapacityInternal σ x0 (v_4 + v_2)).bind fun σ_7 : St => (gI σ_7 x0 [(25, 3)]).bind fun v_8 : Int32 => (isC σ_7 x0 25).bind fun u_9 : Unit => (fJ8_putStringAt N κ σ_7 x0 v_8 x1).bind fun σ_11 : St => (gI σ_11 x0 [(25, 3)]).bind fun v_12 : Int32 => (pV σ_11 x0 [(25, 3)] (.int (v_12 + v_2))).bind fun σ_13 : St => some ((x0), σ_13)
theorem wJ8_append_0 {E : EV} {l : Launch} {p : Program} {e : Env} {s : State} {m : MethodId} {args : Array Value} {below : List Frame} {meth : Method} {c : Code} {R : Room} {res : (Nat × St)} (hX : XK E) (hR : 8 ≤ R.frames ∧ 180 ≤ R.locals) (X : MX E p s m args meth c cJ8_append 3 (some (.object "java/lang/AbstractStringBuilder")) RJ8 "append") (N : Nat) : ∀ (x0 : Nat) (x1 : Nat) (σ : St) (H : Heap) (locs : List Loc) (cells slots : Nat) (ls : Array Slot), WI E R s σ H locs cells slots → lv_has ls 3 [(0, .ref x0), (1, .ref x1)] → fJ8_append N E.2.2.2.1 σ x0 x1 = some res → W p l e R s m args below meth c H locs cells slots (MQ below (Qd E R.cells R.slots (some (.ref res.1)) res.2) args s R.cells R.slots (fr E)) (F0 m 0 ls []) := by
  intro x0 x1 σ H locs cells slots ls I hl hf
  obtain ⟨⟨hx, hb, hml, hown, hts⟩, -⟩ := id X
  unfold fJ8_append at hf
  refine lv_aload_n hx hb dJ8_append_0 rfl (lv_at hl 1 rfl) ?_
  refine lv_ifnonnull (tgt := 9) hx hb dJ8_append_1 (by decide) ?_
  refine lv_aload_n hx hb dJ8_append_9 rfl (lv_at hl 1 rfl) ?_
  obtain ⟨u_1, eu_1, hf⟩ := ob hf
  obtain ⟨v_2, ev_2, hf⟩ := ob hf
  refine cg_V (vw := (RJ10, TJ10, 4)) (ci := 26) (r := (some (.int v_2))) (σ' := σ) (rs := [.int v_2]) (rest := []) (As := []) X I eu_1 rfl (mJ10_length hX ev_2) lvJ8_32 hdJ8_32 ⟨Nat.le_trans (Nat.le_of_ble_eq_true rfl) hR.1, Nat.le_trans (Nat.le_of_ble_eq_true rfl) hR.2⟩ rfl hl.1 rfl (Nat.le_of_ble_eq_true rfl) rfl dJ8_append_10 (fun H locs cells slots I => ?_)
  refine lv_istore_n (lv' := [(2, .int v_2), (0, .ref x0), (1, .ref x1)]) hx hb dJ8_append_13 rfl hl (by decide) rfl (fun ls hl => ?_)
  refine lv_aload_n hx hb dJ8_append_14 rfl (lv_at hl 1 rfl) ?_
  refine lv_aload_n hx hb dJ8_append_15 rfl (lv_at hl 1 rfl) ?_
  obtain ⟨v_4, ev_4, hf⟩ := ob hf
  refine g_get X I gfJ8_79 (gI_in ev_4) dJ8_append_16 ?_
  refine lv_iload_n hx hb dJ8_append_19 rfl (lv_at hl 0 rfl) ?_
  refine lv_iadd hx hb dJ8_append_20 ?_
  obtain ⟨u_5, eu_5, hf⟩ := ob hf
  obtain ⟨σ_7, ev_6, hf⟩ := ob hf
  refine cg_UP (r := none) (σ' := σ_7) (rs := []) (rest := []) (As := [.int (v_4 + v_2)]) hX X I eu_5 (mJ8_ensureCapacityInternal hX ev_6) lvJ8_100 hdJ8_100 ⟨Nat.le_trans (Nat.le_of_ble_eq_true rfl) hR.1, Nat.le_trans (Nat.le_of_ble_eq_true rfl) hR.2⟩ rfl hl.1 rfl (Nat.le_of_ble_eq_true rfl) rfl dJ8_append_21 (fun H locs cells slots I => ?_)
  refine lv_aload_n hx hb dJ8_append_24 rfl (lv_at hl 1 rfl) ?_
  refine lv_aload_n hx hb dJ8_append_25 rfl (lv_at hl 1 rfl) ?_
  obtain ⟨v_8, ev_8, hf⟩ := ob hf
  refine g_get X I gfJ8_79 (gI_in ev_8) dJ8_append_26 ?_
  refine lv_aload_n hx hb dJ8_append_29 rfl (lv_at hl 2 rfl) ?_
  obtain ⟨u_9, eu_9, hf⟩ := ob hf
  obtain ⟨σ_11, ev_10, hf⟩ := ob hf
  refine cg_UP (r := none) (σ' := σ_11) (rs := []) (rest := []) (As := [.int v_8, .ref x1]) hX X I eu_9 (mJ8_putStringAt hX ev_10) lvJ8_208 hdJ8_208 ⟨Nat.le_trans (Nat.le_of_ble_eq_true rfl) hR.1, Nat.le_trans (Nat.le_of_ble_eq_true rfl) hR.2⟩ rfl hl.1 rfl (Nat.le_of_ble_eq_true rfl) rfl dJ8_append_30 (fun H locs cells slots I => ?_)
  refine lv_aload_n hx hb dJ8_append_33 rfl (lv_at hl 1 rfl) ?_
  refine lv_dup hx hb dJ8_append_34 rfl ?_
  obtain ⟨v_12, ev_12, hf⟩ := ob hf
  refine g_get X I gfJ8_79 (gI_in ev_12) dJ8_append_35 ?_
  refine lv_iload_n hx hb dJ8_append_38 rfl (lv_at hl 0 rfl) ?_
  refine lv_iadd hx hb dJ8_append_39 ?_
  obtain ⟨σ_13, eσ_13, hf⟩ := ob hf
  refine g_put X I pfJ8_79 rfl rfl eσ_13 dJ8_append_40 (fun H locs I => ?_)
  refine lv_aload_n hx hb dJ8_append_43 rfl (lv_at hl 1 rfl) ?_
  cases os hf
  exact r_aret X I (Or.inl ⟨_, rfl⟩) (Or.inr ⟨_, rfl⟩) dJ8_append_44
theorem mJ8_append {E : EV} {l : Launch} {N : Nat} {σ : St} {x0 : Nat} {x1 : Nat} {res : (Nat × St)} (hX : XK E) (hf : fJ8_append N E.2.2.2.1 σ x0 x1 = some res) : CM E l yJ8_append (ws_ yJ8_append cJ8_append 3 (some (.object "java/lang/AbstractStringBuilder"))) 8 180 [.ref x0, .ref x1] σ (some (.ref res.1)) res.2 := by
  refine CM.of hX.1 (by decide) rfl rfl (Nat.le_of_ble_eq_true rfl) ?_
  intro p e s m below meth c X I ls hl
  exact wJ8_append_0 hX ⟨Nat.le_refl _, Nat.le_refl _⟩ X N _ _ _ _ _ _ _ _ I hl hf
/-! java/lang/StringBuilder.append(Ljava/lang/String;)Ljava/lang/StringBuilder; imp=True fuel=True kap=True rt=N thr=False -/
theorem lvJ9_29 : GoodIn lw_all (va_wsSU RJ9 29 yJ8_append (ws_ yJ8_append cJ8_append 3 (some (.object "java/lang/AbstractStringBuilder")))) := lw_good (List.forall_mem_cons.mpr ⟨q543, List.forall_mem_cons.mpr ⟨q3337, List.forall_mem_cons.mpr ⟨q536, List.forall_mem_cons.mpr ⟨q544, List.forall_mem_cons.mpr ⟨q127, fun w h => (lw_meth q545 w h).1⟩⟩⟩⟩⟩)
theorem hdJ9_29 : yJ8_append.name ≠ "<init>" ∧ (parseMethodDescriptor yJ8_append.desc).map (fun d => d.parameters.length) = some 1 := by decide +kernel
def fJ9_append (N : Nat) (κ : Nat → Nat) (σ : St) (x0 : Nat) (x1 : Nat) : Option (Nat × St) := (isC σ x0 25).bind fun u_1 : Unit => (fJ8_append N κ σ x0 x1).bind fun (v_2, σ_3) => some ((x0), σ_3)
theorem wJ9_append_0 {E : EV} {l : Launch} {p : Program} {e : Env} {s : State} {m : MethodId} {args : Array Value} {below : List Frame} {meth : Method} {c : Code} {R : Room} {res : (Nat × St)} (hX : XK E) (hR : 9 ≤ R.frames ∧ 202 ≤ R.locals) (X : MX E p s m args meth c cJ9_append 2 (some (.object "java/lang/StringBuilder")) RJ9 "append") (N : Nat) : ∀ (x0 : Nat) (x1 : Nat) (σ : St) (H : Heap) (locs : List Loc) (cells slots : Nat) (ls : Array Slot), WI E R s σ H locs cells slots → lv_has ls 2 [(0, .ref x0), (1, .ref x1)] → fJ9_append N E.2.2.2.1 σ x0 x1 = some res → W p l e R s m args below meth c H locs cells slots (MQ below (Qd E R.cells R.slots (some (.ref res.1)) res.2) args s R.cells R.slots (fr E)) (F0 m 0 ls []) := by
  intro x0 x1 σ H locs cells slots ls I hl hf
  obtain ⟨⟨hx, hb, hml, hown, hts⟩, -⟩ := id X
  unfold fJ9_append at hf
  refine lv_aload_n hx hb dJ9_append_0 rfl (lv_at hl 0 rfl) ?_
  refine lv_aload_n hx hb dJ9_append_1 rfl (lv_at hl 1 rfl) ?_
  obtain ⟨u_1, eu_1, hf⟩ := ob hf
  obtain ⟨⟨v_2, σ_3⟩, ev_2, hf⟩ := ob hf
  refine cg_SU (vw := (RJ9, TJ9, 4)) (ci := 25) (r := (some (.ref v_2))) (σ' := σ_3) (rs := [.ref v_2]) (rest := []) (As := [.ref x1]) X I eu_1 rfl (mJ8_append hX ev_2) lvJ9_29 hdJ9_29 ⟨Nat.le_trans (Nat.le_of_ble_eq_true rfl) hR.1, Nat.le_trans (Nat.le_of_ble_eq_true rfl) hR.2⟩ rfl hl.1 rfl (Nat.le_of_ble_eq_true rfl) rfl dJ9_append_2 (fun H locs cells slots I => ?_)
  refine lv_pop hx hb dJ9_append_5 rfl ?_
  refine lv_aload_n hx hb dJ9_append_6 rfl (lv_at hl 0 rfl) ?_
  cases os hf
  exact r_aret X I (Or.inl ⟨_, rfl⟩) (Or.inr ⟨_, rfl⟩) dJ9_append_7
theorem mJ9_append {E : EV} {l : Launch} {N : Nat} {σ : St} {x0 : Nat} {x1 : Nat} {res : (Nat × St)} (hX : XK E) (hf : fJ9_append N E.2.2.2.1 σ x0 x1 = some res) : CM E l yJ9_append (ws_ yJ9_append cJ9_append 2 (some (.object "java/lang/StringBuilder"))) 9 202 [.ref x0, .ref x1] σ (some (.ref res.1)) res.2 := by
  refine CM.of hX.1 (by decide) rfl rfl (Nat.le_of_ble_eq_true rfl) ?_
  intro p e s m below meth c X I ls hl
  exact wJ9_append_0 hX ⟨Nat.le_refl _, Nat.le_refl _⟩ X N _ _ _ _ _ _ _ _ I hl hf
/-! java/lang/StringBuilder.append(Ljava/lang/String;)Ljava/lang/AbstractStringBuilder; imp=True fuel=True kap=True rt=N thr=False -/
theorem lvJ9_23 : GoodIn lw_all (wsV RJ9 23 RJ9 yJ9_append (ws_ yJ9_append cJ9_append 2 (some (.object "java/lang/StringBuilder")))) := lw_V q2388 q540 q541 q128 q542
theorem hdJ9_23 : yJ9_append.cls = RJ9 ∧ yJ9_append.cls ≠ "java/lang/invoke/MethodHandle" ∧ yJ9_append.cls ≠ "java/lang/invoke/VarHandle" ∧ (parseMethodDescriptor yJ9_append.desc).map (fun d => d.parameters.length) = some 1 := by decide +kernel
def fJ9_append_4 (N : Nat) (κ : Nat → Nat) (σ : St) (x0 : Nat) (x1 : Nat) : Option (Nat × St) := (isC σ x0 25).bind fun u_1 : Unit => (fJ9_append N κ σ x0 x1).bind fun (v_2, σ_3) => some ((v_2), σ_3)
theorem wJ9_append_4_0 {E : EV} {l : Launch} {p : Program} {e : Env} {s : State} {m : MethodId} {args : Array Value} {below : List Frame} {meth : Method} {c : Code} {R : Room} {res : (Nat × St)} (hX : XK E) (hR : 10 ≤ R.frames ∧ 223 ≤ R.locals) (X : MX E p s m args meth c cJ9_append_4 2 (some (.object "java/lang/AbstractStringBuilder")) RJ9 "append") (N : Nat) : ∀ (x0 : Nat) (x1 : Nat) (σ : St) (H : Heap) (locs : List Loc) (cells slots : Nat) (ls : Array Slot), WI E R s σ H locs cells slots → lv_has ls 2 [(0, .ref x0), (1, .ref x1)] → fJ9_append_4 N E.2.2.2.1 σ x0 x1 = some res → W p l e R s m args below meth c H locs cells slots (MQ below (Qd E R.cells R.slots (some (.ref res.1)) res.2) args s R.cells R.slots (fr E)) (F0 m 0 ls []) := by
  intro x0 x1 σ H locs cells slots ls I hl hf
  obtain ⟨⟨hx, hb, hml, hown, hts⟩, -⟩ := id X
  unfold fJ9_append_4 at hf
  refine lv_aload_n hx hb dJ9_append_4_0 rfl (lv_at hl 0 rfl) ?_
  refine lv_aload_n hx hb dJ9_append_4_1 rfl (lv_at hl 1 rfl) ?_
  obtain ⟨u_1, eu_1, hf⟩ := ob hf
  obtain ⟨⟨v_2, σ_3⟩, ev_2, hf⟩ := ob hf
  refine cg_V (vw := (RJ9, TJ9, 4)) (ci := 25) (r := (some (.ref v_2))) (σ' := σ_3) (rs := [.ref v_2]) (rest := []) (As := [.ref x1]) X I eu_1 rfl (mJ9_append hX ev_2) lvJ9_23 hdJ9_23 ⟨Nat.le_trans (Nat.le_of_ble_eq_true rfl) hR.1, Nat.le_trans (Nat.le_of_ble_eq_true rfl) hR.2⟩ rfl hl.1 rfl (Nat.le_of_ble_eq_true rfl) rfl dJ9_append_4_2 (fun H locs cells slots I => ?_)
  cases os hf
  exact r_aret X I (Or.inl ⟨_, rfl⟩) (Or.inr ⟨_, rfl⟩) dJ9_append_4_5
theorem mJ9_append_4 {E : EV} {l : Launch} {N : Nat} {σ : St} {x0 : Nat} {x1 : Nat} {res : (Nat × St)} (hX : XK E) (hf : fJ9_append_4 N E.2.2.2.1 σ x0 x1 = some res) : CM E l yJ9_append_4 (ws_ yJ9_append_4 cJ9_append_4 2 (some (.object "java/lang/AbstractStringBuilder"))) 10 223 [.ref x0, .ref x1] σ (some (.ref res.1)) res.2 := by
  refine CM.of hX.1 (by decide) rfl rfl (Nat.le_of_ble_eq_true rfl) ?_
  intro p e s m below meth c X I ls hl
  exact wJ9_append_4_0 hX ⟨Nat.le_refl _, Nat.le_refl _⟩ X N _ _ _ _ _ _ _ _ I hl hf
/-! java/lang/AbstractStringBuilder.<init>(Ljava/lang/String;)V imp=True fuel=True kap=True rt=None thr=False -/
theorem lvJ8_43 : GoodIn lw_all (va_wsO RJ8 43 RJ9 RJ8 yJ8_append yJ9_append_4 (ws_ yJ9_append_4 cJ9_append_4 2 (some (.object "java/lang/AbstractStringBuilder")))) ∧ Cond.code ⟨RJ8, yJ8_append.name, yJ8_append.desc⟩ cJ8_append 3 (some (.object "java/lang/AbstractStringBuilder")) ∈ lw_all := ⟨lw_good (List.forall_mem_cons.mpr ⟨q2385, List.forall_mem_cons.mpr ⟨q3337, List.forall_mem_cons.mpr ⟨q544, List.forall_mem_cons.mpr ⟨q3346, List.forall_mem_cons.mpr ⟨q2386, List.forall_mem_cons.mpr ⟨q128, fun w h => (lw_meth q2387 w h).1⟩⟩⟩⟩⟩⟩), q545⟩
theorem hdJ8_43 : RJ8 ≠ "java/lang/invoke/MethodHandle" ∧ RJ8 ≠ "java/lang/invoke/VarHandle" ∧ (parseMethodDescriptor yJ8_append.desc).map (fun d => d.parameters.length) = some 1 := by decide +kernel
def fJ8_init_2_53 (N : Nat) (κ : Nat → Nat) (x0 : Nat) (x1 : Nat) (y0 : Nat) (y1 : Nat) (σ : St) : Option St := (pV σ y0 [(25, 0)] (.ref y1)).bind fun σ_1 : St => (isC σ_1 x0 25).bind fun u_2 : Unit => (fJ9_append_4 N κ σ_1 x0 x1).bind fun (v_3, σ_4) => some σ_4
def fJ8_init_2_24 (N : Nat) (κ : Nat → Nat) (x0 : Nat) (x1 : Nat) (y0 : Int32) (σ : St) : Option St := (isC σ x1 26).bind fun u_5 : Unit => (fJ10_coder κ σ x1).bind fun v_6 : Int32 => if ¬ (v_6.toInt8.toInt32 = v_6) then none else (pV σ x0 [(25, 1)] (.int v_6)).bind fun σ_8 : St => if v_6 = 0 then (an y0).bind fun k_11 : Nat => (nH σ_8 k_11 (.inl (1, z0 1 k_11))).bind fun (q_12a, q_12s) => fJ8_init_2_53 N κ x0 x1 x0 q_12a q_12s else (fJ11_newBytesFor σ_8 y0).bind fun (v_9, σ_10) => fJ8_init_2_53 N κ x0 x1 x0 v_9 σ_10
def fJ8_init_2 (N : Nat) (κ : Nat → Nat) (σ : St) (x0 : Nat) (x1 : Nat) : Option St := (isC σ x1 26).bind fun u_13 : Unit => (fJ10_length κ σ x1).bind fun v_14 : Int32 => if (2147483631 : Int32) ≤ v_14 then fJ8_init_2_24 N κ x0 x1 (2147483647 : Int32) σ else fJ8_init_2_24 N κ x0 x1 (v_14 + (16 : Int32)) σ
theorem wJ8_init_2_53 {E : EV} {l : Launch} {p : Program} {e : Env} {s : State} {m : MethodId} {args : Array Value} {below : List Frame} {meth : Method} {c : Code} {R : Room} {res : St} (hX : XK E) (hR : 11 ≤ R.frames ∧ 244 ≤ R.locals) (X : MX E p s m args meth c cJ8_init_2 5 none RJ8 "<init>") (N : Nat) : ∀ (x0 : Nat) (x1 : Nat) (y0 : Nat) (y1 : Nat) (σ : St) (H : Heap) (locs : List Loc) (cells slots : Nat) (ls : Array Slot), WI E R s σ H locs cells slots → lv_has ls 5 [(0, .ref x0), (1, .ref x1)] → fJ8_init_2_53 N E.2.2.2.1 x0 x1 y0 y1 σ = some res → W p l e R s m args below meth c H locs cells slots (MQ below (Qd E R.cells R.slots none res) args s R.cells R.slots (fr E)) (F0 m 53 ls [.ref y1, .ref y0]) := by
  intro x0 x1 y0 y1 σ H locs cells slots ls I hl hf
  obtain ⟨⟨hx, hb, hml, hown, hts⟩, -⟩ := id X
  unfold fJ8_init_2_53 at hf
  obtain ⟨σ_1, eσ_1, hf⟩ := ob hf
  refine g_put X I pfJ8_15 rfl rfl eσ_1 dJ8_init_2_53 (fun H locs I => ?_)
  refine lv_aload_n hx hb dJ8_init_2_56 rfl (lv_at hl 0 rfl) ?_
  refine lv_aload_n hx hb dJ8_init_2_57 rfl (lv_at hl 1 rfl) ?_
  obtain ⟨u_2, eu_2, hf⟩ := ob hf
  obtain ⟨⟨v_3, σ_4⟩, ev_3, hf⟩ := ob hf
  refine cg_O (vw := (RJ9, TJ9, 4)) (ci := 25) (r := (some (.ref v_3))) (σ' := σ_4) (rs := [.ref v_3]) (rest := []) (As := [.ref x1]) X I eu_2 rfl (mJ9_append_4 hX ev_3) lvJ8_43 hdJ8_43 ⟨Nat.le_trans (Nat.le_of_ble_eq_true rfl) hR.1, Nat.le_trans (Nat.le_of_ble_eq_true rfl) hR.2⟩ rfl hl.1 rfl (Nat.le_of_ble_eq_true rfl) rfl dJ8_init_2_58 (fun H locs cells slots I => ?_)
  refine lv_pop hx hb dJ8_init_2_61 rfl ?_
  cases os hf
  exact r_vret X I dJ8_init_2_62
theorem wJ8_init_2_24 {E : EV} {l : Launch} {p : Program} {e : Env} {s : State} {m : MethodId} {args : Array Value} {below : List Frame} {meth : Method} {c : Code} {R : Room} {res : St} (hX : XK E) (hR : 11 ≤ R.frames ∧ 244 ≤ R.locals) (X : MX E p s m args meth c cJ8_init_2 5 none RJ8 "<init>") (N : Nat) : ∀ (x0 : Nat) (x1 : Nat) (y0 : Int32) (σ : St) (H : Heap) (locs : List Loc) (cells slots : Nat) (ls : Array Slot), WI E R s σ H locs cells slots → lv_has ls 5 [(0, .ref x0), (1, .ref x1)] → fJ8_init_2_24 N E.2.2.2.1 x0 x1 y0 σ = some res → W p l e R s m args below meth c H locs cells slots (MQ below (Qd E R.cells R.slots none res) args s R.cells R.slots (fr E)) (F0 m 24 ls [.int y0]) := by
  intro x0 x1 y0 σ H locs cells slots ls I hl hf
  obtain ⟨⟨hx, hb, hml, hown, hts⟩, -⟩ := id X
  unfold fJ8_init_2_24 at hf
  refine lv_istore_n (lv' := [(3, .int y0), (0, .ref x0), (1, .ref x1)]) hx hb dJ8_init_2_24 rfl hl (by decide) rfl (fun ls hl => ?_)
  refine lv_aload_n hx hb dJ8_init_2_25 rfl (lv_at hl 2 rfl) ?_
  obtain ⟨u_5, eu_5, hf⟩ := ob hf
  obtain ⟨v_6, ev_6, hf⟩ := ob hf
  refine cg_V (vw := (RJ10, TJ10, 4)) (ci := 26) (r := (some (.int v_6))) (σ' := σ) (rs := [.int v_6]) (rest := []) (As := []) X I eu_5 rfl (mJ10_coder hX ev_6) lvJ8_40 hdJ8_40 ⟨Nat.le_trans (Nat.le_of_ble_eq_true rfl) hR.1, Nat.le_trans (Nat.le_of_ble_eq_true rfl) hR.2⟩ rfl hl.1 rfl (Nat.le_of_ble_eq_true rfl) rfl dJ8_init_2_26 (fun H locs cells slots I => ?_)
  refine lv_istore (lv' := [(4, .int v_6), (3, .int y0), (0, .ref x0), (1, .ref x1)]) hx hb dJ8_init_2_29 hl (by decide) rfl (fun ls hl => ?_)
  refine lv_aload_n hx hb dJ8_init_2_31 rfl (lv_at hl 2 rfl) ?_
  refine lv_iload hx hb dJ8_init_2_32 (lv_at hl 0 rfl) ?_
  by_cases d_34 : ¬ (v_6.toInt8.toInt32 = v_6)
  · exact nomatch (ip d_34 hf)
  have hf := im d_34 hf
  have c_34 := Decidable.not_not.mp d_34
  obtain ⟨σ_8, eσ_8, hf⟩ := ob hf
  refine g_put X I pfJ8_22 (b_nar c_34) (b_fit c_34) eσ_8 dJ8_init_2_34 (fun H locs I => ?_)
  refine lv_aload_n hx hb dJ8_init_2_37 rfl (lv_at hl 2 rfl) ?_
  refine lv_iload hx hb dJ8_init_2_38 (lv_at hl 0 rfl) ?_
  refine lv_if_ne (tgt := 49) hx hb dJ8_init_2_40 (by decide) (fun c_40 => ?_) (fun c_40 => ?_)
  · have hf := im c_40 hf
    refine lv_iload_n hx hb dJ8_init_2_49 rfl (lv_at hl 1 rfl) ?_
    obtain ⟨⟨v_9, σ_10⟩, ev_9, hf⟩ := ob hf
    refine cg_S (r := (some (.ref v_9))) (σ' := σ_10) (rs := [.ref v_9, .ref x0]) (rest := [.ref x0]) (As := [.int y0]) X I (mJ11_newBytesFor hX ev_9) lvJ8_26 hdJ8_26 ⟨Nat.le_trans (Nat.le_of_ble_eq_true rfl) hR.1, Nat.le_trans (Nat.le_of_ble_eq_true rfl) hR.2⟩ rfl hl.1 rfl (Nat.le_of_ble_eq_true rfl) rfl dJ8_init_2_50 (fun H locs cells slots I => ?_)
    exact wJ8_init_2_53 hX hR X N x0 x1 x0 v_9 σ_10 _ _ _ _ _ I (lv_sub hl [2, 3] rfl) hf
  · have hf := ip c_40 hf
    refine lv_iload_n hx hb dJ8_init_2_43 rfl (lv_at hl 1 rfl) ?_
    obtain ⟨k_11, ek_11, hf⟩ := ob hf
    obtain ⟨⟨q_12a, q_12s⟩, eq_12, hf⟩ := ob hf
    refine g_newa (atype := .byte) (t := 1) X I (by decide) rfl q197 ek_11 eq_12 dJ8_init_2_44 (fun H locs cells slots I => ?_)
    refine lv_goto (tgt := 53) hx hb dJ8_init_2_46 (by decide) ?_
    exact wJ8_init_2_53 hX hR X N x0 x1 x0 q_12a q_12s _ _ _ _ _ I (lv_sub hl [2, 3] rfl) hf
theorem wJ8_init_2_0 {E : EV} {l : Launch} {p : Program} {e : Env} {s : State} {m : MethodId} {args : Array Value} {below : List Frame} {meth : Method} {c : Code} {R : Room} {res : St} (hX : XK E) (hR : 11 ≤ R.frames ∧ 244 ≤ R.locals) (X : MX E p s m args meth c cJ8_init_2 5 none RJ8 "<init>") (N : Nat) : ∀ (x0 : Nat) (x1 : Nat) (σ : St) (H : Heap) (locs : List Loc) (cells slots : Nat) (ls : Array Slot), WI E R s σ H locs cells slots → lv_has ls 5 [(0, .ref x0), (1, .ref x1)] → fJ8_init_2 N E.2.2.2.1 σ x0 x1 = some res → W p l e R s m args below meth c H locs cells slots (MQ below (Qd E R.cells R.slots none res) args s R.cells R.slots (fr E)) (F0 m 0 ls []) := by
  intro x0 x1 σ H locs cells slots ls I hl hf
  obtain ⟨⟨hx, hb, hml, hown, hts⟩, -⟩ := id X
  unfold fJ8_init_2 at hf
  refine lv_aload_n hx hb dJ8_init_2_0 rfl (lv_at hl 0 rfl) ?_
  refine g_objInit X ⟨Nat.le_trans (Nat.le_of_ble_eq_true rfl) hR.1, Nat.le_trans (Nat.le_of_ble_eq_true rfl) hR.2⟩ q514 hl.1 (Nat.le_of_ble_eq_true rfl) dJ8_init_2_1 ?_
  refine lv_aload_n hx hb dJ8_init_2_4 rfl (lv_at hl 1 rfl) ?_
  obtain ⟨u_13, eu_13, hf⟩ := ob hf
  obtain ⟨v_14, ev_14, hf⟩ := ob hf
  refine cg_V (vw := (RJ10, TJ10, 4)) (ci := 26) (r := (some (.int v_14))) (σ' := σ) (rs := [.int v_14]) (rest := []) (As := []) X I eu_13 rfl (mJ10_length hX ev_14) lvJ8_32 hdJ8_32 ⟨Nat.le_trans (Nat.le_of_ble_eq_true rfl) hR.1, Nat.le_trans (Nat.le_of_ble_eq_true rfl) hR.2⟩ rfl hl.1 rfl (Nat.le_of_ble_eq_true rfl) rfl dJ8_init_2_5 (fun H locs cells slots I => ?_)
  refine lv_istore_n (lv' := [(2, .int v_14), (0, .ref x0), (1, .ref x1)]) hx hb dJ8_init_2_8 rfl hl (by decide) rfl (fun ls hl => ?_)
  refine lv_iload_n hx hb dJ8_init_2_9 rfl (lv_at hl 0 rfl) ?_
  refine lv_ldc (v := 2147483631) hx hb hown (hts _ q2384) dJ8_init_2_10 ?_
  refine lv_icmp_ge (tgt := 22) hx hb dJ8_init_2_12 (by decide) (fun c_12 => ?_) (fun c_12 => ?_)
  · have hf := ip c_12 hf
    refine lv_ldc (v := 2147483647) hx hb hown (hts _ q568) dJ8_init_2_22 ?_
    exact wJ8_init_2_24 hX hR X N x0 x1 (2147483647 : Int32) σ _ _ _ _ _ I (lv_sub hl [1, 2] rfl) hf
  · have hf := im c_12 hf
    refine lv_iload_n hx hb dJ8_init_2_15 rfl (lv_at hl 0 rfl) ?_
    refine lv_bipush (v := 16) hx hb dJ8_init_2_16 (by decide) ?_
    refine lv_iadd hx hb dJ8_init_2_18 ?_
    refine lv_goto (tgt := 24) hx hb dJ8_init_2_19 (by decide) ?_
    exact wJ8_init_2_24 hX hR X N x0 x1 (v_14 + (16 : Int32)) σ _ _ _ _ _ I (lv_sub hl [1, 2] rfl) hf
theorem mJ8_init_2 {E : EV} {l : Launch} {N : Nat} {σ : St} {x0 : Nat} {x1 : Nat} {res : St} (hX : XK E) (hf : fJ8_init_2 N E.2.2.2.1 σ x0 x1 = some res) : CM E l yJ8_init_2 (ws_ yJ8_init_2 cJ8_init_2 5 none) 11 244 [.ref x0, .ref x1] σ none res := by
  refine CM.of hX.1 (by decide) rfl rfl (Nat.le_of_ble_eq_true rfl) ?_
  intro p e s m below meth c X I ls hl
  exact wJ8_init_2_0 hX ⟨Nat.le_refl _, Nat.le_refl _⟩ X N _ _ _ _ _ _ _ _ I hl hf
/-! java/lang/StringBuilder.<init>(Ljava/lang/String;)V imp=True fuel=True kap=True rt=None thr=False -/
theorem lvJ9_7 : GoodIn lw_all (ws_ yJ8_init_2 cJ8_init_2 5 none) ∧ Cond.initialized yJ8_init_2.cls ∈ lw_all ∧ Cond.methodLink RJ9 7 yJ8_init_2 ∈ lw_all ∧ Cond.instanceMethod yJ8_init_2 ∈ lw_all ∧ yJ8_init_2.name = "<init>" := ⟨lw_meth q2383, q127, q2381, q2382, rfl⟩
theorem hdJ9_7 : yJ8_init_2.cls ≠ "java/lang/invoke/MethodHandle" ∧ yJ8_init_2.cls ≠ "java/lang/invoke/VarHandle" ∧ (parseMethodDescriptor yJ8_init_2.desc).map (fun d => d.parameters.length) = some 1 := by decide +kernel
def fJ9_init_2 (N : Nat) (κ : Nat → Nat) (σ : St) (x0 : Nat) (x1 : Nat) : Option St := (fJ8_init_2 N κ σ x0 x1).bind fun σ_2 : St => some σ_2
theorem wJ9_init_2_0 {E : EV} {l : Launch} {p : Program} {e : Env} {s : State} {m : MethodId} {args : Array Value} {below : List Frame} {meth : Method} {c : Code} {R : Room} {res : St} (hX : XK E) (hR : 12 ≤ R.frames ∧ 268 ≤ R.locals) (X : MX E p s m args meth c cJ9_init_2 2 none RJ9 "<init>") (N : Nat) : ∀ (x0 : Nat) (x1 : Nat) (σ : St) (H : Heap) (locs : List Loc) (cells slots : Nat) (ls : Array Slot), WI E R s σ H locs cells slots → lv_has ls 2 [(0, .ref x0), (1, .ref x1)] → fJ9_init_2 N E.2.2.2.1 σ x0 x1 = some res → W p l e R s m args below meth c H locs cells slots (MQ below (Qd E R.cells R.slots none res) args s R.cells R.slots (fr E)) (F0 m 0 ls []) := by
  intro x0 x1 σ H locs cells slots ls I hl hf
  obtain ⟨⟨hx, hb, hml, hown, hts⟩, -⟩ := id X
  unfold fJ9_init_2 at hf
  refine lv_aload_n hx hb dJ9_init_2_0 rfl (lv_at hl 0 rfl) ?_
  refine lv_aload_n hx hb dJ9_init_2_1 rfl (lv_at hl 1 rfl) ?_
  obtain ⟨σ_2, ev_1, hf⟩ := ob hf
  refine cm_I (σ' := σ_2) (rs := []) (rest := []) (As := [.ref x1]) X I (mJ8_init_2 hX ev_1) lvJ9_7 hdJ9_7 ⟨Nat.le_trans (Nat.le_of_ble_eq_true rfl) hR.1, Nat.le_trans (Nat.le_of_ble_eq_true rfl) hR.2⟩ rfl hl.1 rfl (Nat.le_of_ble_eq_true rfl) rfl dJ9_init_2_2 (fun H locs cells slots I => ?_)
  cases os hf
  exact r_vret X I dJ9_init_2_5
theorem mJ9_init_2 {E : EV} {l : Launch} {N : Nat} {σ : St} {x0 : Nat} {x1 : Nat} {res : St} (hX : XK E) (hf : fJ9_init_2 N E.2.2.2.1 σ x0 x1 = some res) : CM E l yJ9_init_2 (ws_ yJ9_init_2 cJ9_init_2 2 none) 12 268 [.ref x0, .ref x1] σ none res := by
  refine CM.of hX.1 (by decide) rfl rfl (Nat.le_of_ble_eq_true rfl) ?_
  intro p e s m below meth c X I ls hl
  exact wJ9_init_2_0 hX ⟨Nat.le_refl _, Nat.le_refl _⟩ X N _ _ _ _ _ _ _ _ I hl hf
/-! SharedTaxis$Words.<init>(LSharedTaxis;LSharedTaxis$Taxi;)V imp=True fuel=False kap=False rt=None thr=False -/
theorem pfX19_1 : ∀ q ∈ ([(17, 1)] : List (Nat × Nat)), PI RX19 1 (.object "SharedTaxis") q := List.forall_mem_cons.mpr ⟨⟨RX19, TX19, 2, tyX19, rfl, in_X19, by decide, q2401, rfl, tyX19_ok, nmX19, rfl, rfl⟩, fun _ h => by cases h⟩
theorem pfX19_13 : ∀ q ∈ ([(17, 0)] : List (Nat × Nat)), PI RX19 13 (.object "SharedTaxis$Taxi") q := List.forall_mem_cons.mpr ⟨⟨RX19, TX19, 2, tyX19, rfl, in_X19, by decide, q2399, rfl, tyX19_ok, nmX19, rfl, rfl⟩, fun _ h => by cases h⟩
def fX19_init (σ : St) (x0 : Nat) (x1 : Nat) (x2 : Nat) : Option St := (pV σ x0 [(17, 1)] (.ref x1)).bind fun σ_1 : St => (pV σ_1 x0 [(17, 0)] (.ref x2)).bind fun σ_2 : St => some σ_2
theorem wX19_init_0 {E : EV} {l : Launch} {p : Program} {e : Env} {s : State} {m : MethodId} {args : Array Value} {below : List Frame} {meth : Method} {c : Code} {R : Room} {res : St} (hX : XK E) (hR : 1 ≤ R.frames ∧ 20 ≤ R.locals) (X : MX E p s m args meth c cX19_init 3 none RX19 "<init>") : ∀ (x0 : Nat) (x1 : Nat) (x2 : Nat) (σ : St) (H : Heap) (locs : List Loc) (cells slots : Nat) (ls : Array Slot), WI E R s σ H locs cells slots → lv_has ls 3 [(0, .ref x0), (1, .ref x1), (2, .ref x2)] → fX19_init σ x0 x1 x2 = some res → W p l e R s m args below meth c H locs cells slots (MQ below (Qd E R.cells R.slots none res) args s R.cells R.slots (fr E)) (F0 m 0 ls []) := by
  intro x0 x1 x2 σ H locs cells slots ls I hl hf
  obtain ⟨⟨hx, hb, hml, hown, hts⟩, -⟩ := id X
  unfold fX19_init at hf
  refine lv_aload_n hx hb dX19_init_0 rfl (lv_at hl 0 rfl) ?_
  refine lv_aload_n hx hb dX19_init_1 rfl (lv_at hl 1 rfl) ?_
  obtain ⟨σ_1, eσ_1, hf⟩ := ob hf
  refine g_putI X I pfX19_1 rfl rfl eσ_1 dX19_init_2 (fun H locs I => ?_)
  refine lv_aload_n hx hb dX19_init_5 rfl (lv_at hl 0 rfl) ?_
  refine g_objInit X ⟨Nat.le_trans (Nat.le_of_ble_eq_true rfl) hR.1, Nat.le_trans (Nat.le_of_ble_eq_true rfl) hR.2⟩ q2398 hl.1 (Nat.le_of_ble_eq_true rfl) dX19_init_6 ?_
  refine lv_aload_n hx hb dX19_init_9 rfl (lv_at hl 0 rfl) ?_
  refine lv_aload_n hx hb dX19_init_10 rfl (lv_at hl 2 rfl) ?_
  obtain ⟨σ_2, eσ_2, hf⟩ := ob hf
  refine g_putI X I pfX19_13 rfl rfl eσ_2 dX19_init_11 (fun H locs I => ?_)
  cases os hf
  exact r_vret X I dX19_init_14
theorem mX19_init {E : EV} {l : Launch} {σ : St} {x0 : Nat} {x1 : Nat} {x2 : Nat} {res : St} (hX : XK E) (hf : fX19_init σ x0 x1 x2 = some res) : CM E l yX19_init (ws_ yX19_init cX19_init 3 none) 1 20 [.ref x0, .ref x1, .ref x2] σ none res := by
  refine CM.of hX.1 (by decide) rfl rfl (Nat.le_of_ble_eq_true rfl) ?_
  intro p e s m below meth c X I ls hl
  exact wX19_init_0 hX ⟨Nat.le_refl _, Nat.le_refl _⟩ X _ _ _ _ _ _ _ _ _ I hl hf
/-! SharedTaxis.wordsOf(LSharedTaxis$Taxi;)Ljava/lang/Iterable; imp=True fuel=False kap=False rt=N thr=False -/
theorem noX1_490 : NO RX1 490 17 2 [.null, .null] := ⟨RX19, TX19, tyX19, rfl, in_X19, tyX19_ok, by decide, q2393, q2394, q159⟩
theorem lvX1_492 : GoodIn lw_all (ws_ yX19_init cX19_init 3 none) ∧ Cond.initialized yX19_init.cls ∈ lw_all ∧ Cond.methodLink RX1 492 yX19_init ∈ lw_all ∧ Cond.instanceMethod yX19_init ∈ lw_all ∧ yX19_init.name = "<init>" := ⟨lw_meth q2397, q159, q2395, q2396, rfl⟩
theorem hdX1_492 : yX19_init.cls ≠ "java/lang/invoke/MethodHandle" ∧ yX19_init.cls ≠ "java/lang/invoke/VarHandle" ∧ (parseMethodDescriptor yX19_init.desc).map (fun d => d.parameters.length) = some 2 := by decide +kernel
def fX1_wordsOf (σ : St) (x0 : Nat) (x1 : Nat) : Option (Nat × St) := (nH σ 2 (.inr (17, [.null, .null]))).bind fun (q_1a, q_1s) => (fX19_init q_1s q_1a x0 x1).bind fun σ_3 : St => some ((q_1a), σ_3)
theorem wX1_wordsOf_0 {E : EV} {l : Launch} {p : Program} {e : Env} {s : State} {m : MethodId} {args : Array Value} {below : List Frame} {meth : Method} {c : Code} {R : Room} {res : (Nat × St)} (hX : XK E) (hR : 2 ≤ R.frames ∧ 42 ≤ R.locals) (X : MX E p s m args meth c cX1_wordsOf 2 (some (.object "java/lang/Iterable")) RX1 "wordsOf") : ∀ (x0 : Nat) (x1 : Nat) (σ : St) (H : Heap) (locs : List Loc) (cells slots : Nat) (ls : Array Slot), WI E R s σ H locs cells slots → lv_has ls 2 [(0, .ref x0), (1, .ref x1)] → fX1_wordsOf σ x0 x1 = some res → W p l e R s m args below meth c H locs cells slots (MQ below (Qd E R.cells R.slots (some (.ref res.1)) res.2) args s R.cells R.slots (fr E)) (F0 m 0 ls []) := by
  intro x0 x1 σ H locs cells slots ls I hl hf
  obtain ⟨⟨hx, hb, hml, hown, hts⟩, -⟩ := id X
  unfold fX1_wordsOf at hf
  obtain ⟨⟨q_1a, q_1s⟩, eq_1, hf⟩ := ob hf
  refine g_new X I noX1_490 eq_1 dX1_wordsOf_0 (fun H locs cells slots I => ?_)
  refine lv_dup hx hb dX1_wordsOf_3 rfl ?_
  refine lv_aload_n hx hb dX1_wordsOf_4 rfl (lv_at hl 0 rfl) ?_
  refine lv_aload_n hx hb dX1_wordsOf_5 rfl (lv_at hl 1 rfl) ?_
  obtain ⟨σ_3, ev_2, hf⟩ := ob hf
  refine cm_I (σ' := σ_3) (rs := [.ref q_1a]) (rest := [.ref q_1a]) (As := [.ref x0, .ref x1]) X I (mX19_init hX ev_2) lvX1_492 hdX1_492 ⟨Nat.le_trans (Nat.le_of_ble_eq_true rfl) hR.1, Nat.le_trans (Nat.le_of_ble_eq_true rfl) hR.2⟩ rfl hl.1 rfl (Nat.le_of_ble_eq_true rfl) rfl dX1_wordsOf_6 (fun H locs cells slots I => ?_)
  cases os hf
  exact r_aret X I (Or.inl ⟨_, rfl⟩) (Or.inr ⟨_, rfl⟩) dX1_wordsOf_9
theorem mX1_wordsOf {E : EV} {l : Launch} {σ : St} {x0 : Nat} {x1 : Nat} {res : (Nat × St)} (hX : XK E) (hf : fX1_wordsOf σ x0 x1 = some res) : CM E l yX1_wordsOf (ws_ yX1_wordsOf cX1_wordsOf 2 (some (.object "java/lang/Iterable"))) 2 42 [.ref x0, .ref x1] σ (some (.ref res.1)) res.2 := by
  refine CM.of hX.1 (by decide) rfl rfl (Nat.le_of_ble_eq_true rfl) ?_
  intro p e s m below meth c X I ls hl
  exact wX1_wordsOf_0 hX ⟨Nat.le_refl _, Nat.le_refl _⟩ X _ _ _ _ _ _ _ _ I hl hf
/-! SharedTaxis$Words$1.<init>(LSharedTaxis$Words;)V imp=True fuel=False kap=False rt=None thr=False -/
theorem pfX20_1 : ∀ q ∈ ([(18, 1)] : List (Nat × Nat)), PI RX20 1 (.object "SharedTaxis$Words") q := List.forall_mem_cons.mpr ⟨⟨RX20, TX20, 2, tyX20, rfl, in_X20, by decide, q2425, rfl, tyX20_ok, nmX20, rfl, rfl⟩, fun _ h => by cases h⟩
def fX20_init (σ : St) (x0 : Nat) (x1 : Nat) : Option St := (pV σ x0 [(18, 1)] (.ref x1)).bind fun σ_1 : St => some σ_1
theorem wX20_init_0 {E : EV} {l : Launch} {p : Program} {e : Env} {s : State} {m : MethodId} {args : Array Value} {below : List Frame} {meth : Method} {c : Code} {R : Room} {res : St} (hX : XK E) (hR : 1 ≤ R.frames ∧ 20 ≤ R.locals) (X : MX E p s m args meth c cX20_init 2 none RX20 "<init>") : ∀ (x0 : Nat) (x1 : Nat) (σ : St) (H : Heap) (locs : List Loc) (cells slots : Nat) (ls : Array Slot), WI E R s σ H locs cells slots → lv_has ls 2 [(0, .ref x0), (1, .ref x1)] → fX20_init σ x0 x1 = some res → W p l e R s m args below meth c H locs cells slots (MQ below (Qd E R.cells R.slots none res) args s R.cells R.slots (fr E)) (F0 m 0 ls []) := by
  intro x0 x1 σ H locs cells slots ls I hl hf
  obtain ⟨⟨hx, hb, hml, hown, hts⟩, -⟩ := id X
  unfold fX20_init at hf
  refine lv_aload_n hx hb dX20_init_0 rfl (lv_at hl 0 rfl) ?_
  refine lv_aload_n hx hb dX20_init_1 rfl (lv_at hl 1 rfl) ?_
  obtain ⟨σ_1, eσ_1, hf⟩ := ob hf
  refine g_putI X I pfX20_1 rfl rfl eσ_1 dX20_init_2 (fun H locs I => ?_)
  refine lv_aload_n hx hb dX20_init_5 rfl (lv_at hl 0 rfl) ?_
  refine g_objInit X ⟨Nat.le_trans (Nat.le_of_ble_eq_true rfl) hR.1, Nat.le_trans (Nat.le_of_ble_eq_true rfl) hR.2⟩ q2423 hl.1 (Nat.le_of_ble_eq_true rfl) dX20_init_6 ?_
  cases os hf
  exact r_vret X I dX20_init_9
theorem mX20_init {E : EV} {l : Launch} {σ : St} {x0 : Nat} {x1 : Nat} {res : St} (hX : XK E) (hf : fX20_init σ x0 x1 = some res) : CM E l yX20_init (ws_ yX20_init cX20_init 2 none) 1 20 [.ref x0, .ref x1] σ none res := by
  refine CM.of hX.1 (by decide) rfl rfl (Nat.le_of_ble_eq_true rfl) ?_
  intro p e s m below meth c X I ls hl
  exact wX20_init_0 hX ⟨Nat.le_refl _, Nat.le_refl _⟩ X _ _ _ _ _ _ _ _ I hl hf
/-! SharedTaxis$Words.iterator()Ljava/util/Iterator; imp=True fuel=False kap=False rt=N thr=False -/
theorem noX19_17 : NO RX19 17 18 2 [.int 0, .null] := ⟨RX20, TX20, tyX20, rfl, in_X20, tyX20_ok, by decide, q2418, q2419, q160⟩
theorem lvX19_19 : GoodIn lw_all (ws_ yX20_init cX20_init 2 none) ∧ Cond.initialized yX20_init.cls ∈ lw_all ∧ Cond.methodLink RX19 19 yX20_init ∈ lw_all ∧ Cond.instanceMethod yX20_init ∈ lw_all ∧ yX20_init.name = "<init>" := ⟨lw_meth q2422, q160, q2420, q2421, rfl⟩
theorem hdX19_19 : yX20_init.cls ≠ "java/lang/invoke/MethodHandle" ∧ yX20_init.cls ≠ "java/lang/invoke/VarHandle" ∧ (parseMethodDescriptor yX20_init.desc).map (fun d => d.parameters.length) = some 1 := by decide +kernel
def fX19_iterator (σ : St) (x0 : Nat) : Option (Nat × St) := (nH σ 2 (.inr (18, [.int 0, .null]))).bind fun (q_1a, q_1s) => (fX20_init q_1s q_1a x0).bind fun σ_3 : St => some ((q_1a), σ_3)
theorem wX19_iterator_0 {E : EV} {l : Launch} {p : Program} {e : Env} {s : State} {m : MethodId} {args : Array Value} {below : List Frame} {meth : Method} {c : Code} {R : Room} {res : (Nat × St)} (hX : XK E) (hR : 2 ≤ R.frames ∧ 41 ≤ R.locals) (X : MX E p s m args meth c cX19_iterator 1 (some (.object "java/util/Iterator")) RX19 "iterator") : ∀ (x0 : Nat) (σ : St) (H : Heap) (locs : List Loc) (cells slots : Nat) (ls : Array Slot), WI E R s σ H locs cells slots → lv_has ls 1 [(0, .ref x0)] → fX19_iterator σ x0 = some res → W p l e R s m args below meth c H locs cells slots (MQ below (Qd E R.cells R.slots (some (.ref res.1)) res.2) args s R.cells R.slots (fr E)) (F0 m 0 ls []) := by
  intro x0 σ H locs cells slots ls I hl hf
  obtain ⟨⟨hx, hb, hml, hown, hts⟩, -⟩ := id X
  unfold fX19_iterator at hf
  obtain ⟨⟨q_1a, q_1s⟩, eq_1, hf⟩ := ob hf
  refine g_new X I noX19_17 eq_1 dX19_iterator_0 (fun H locs cells slots I => ?_)
  refine lv_dup hx hb dX19_iterator_3 rfl ?_
  refine lv_aload_n hx hb dX19_iterator_4 rfl (lv_at hl 0 rfl) ?_
  obtain ⟨σ_3, ev_2, hf⟩ := ob hf
  refine cm_I (σ' := σ_3) (rs := [.ref q_1a]) (rest := [.ref q_1a]) (As := [.ref x0]) X I (mX20_init hX ev_2) lvX19_19 hdX19_19 ⟨Nat.le_trans (Nat.le_of_ble_eq_true rfl) hR.1, Nat.le_trans (Nat.le_of_ble_eq_true rfl) hR.2⟩ rfl hl.1 rfl (Nat.le_of_ble_eq_true rfl) rfl dX19_iterator_5 (fun H locs cells slots I => ?_)
  cases os hf
  exact r_aret X I (Or.inl ⟨_, rfl⟩) (Or.inr ⟨_, rfl⟩) dX19_iterator_8
theorem mX19_iterator {E : EV} {l : Launch} {σ : St} {x0 : Nat} {res : (Nat × St)} (hX : XK E) (hf : fX19_iterator σ x0 = some res) : CM E l yX19_iterator (ws_ yX19_iterator cX19_iterator 1 (some (.object "java/util/Iterator"))) 2 41 [.ref x0] σ (some (.ref res.1)) res.2 := by
  refine CM.of hX.1 (by decide) rfl rfl (Nat.le_of_ble_eq_true rfl) ?_
  intro p e s m below meth c X I ls hl
  exact wX19_iterator_0 hX ⟨Nat.le_refl _, Nat.le_refl _⟩ X _ _ _ _ _ _ _ I hl hf
/-! SharedTaxis$Words$1.hasNext()Z imp=False fuel=False kap=False rt=I thr=False -/
theorem gfX20_13 : ∀ q ∈ ([(18, 0)] : List (Nat × Nat)), GF RX20 13 q := List.forall_mem_cons.mpr ⟨⟨RX20, TX20, 2, _, rfl, in_X20, by decide, q2424, Or.inl rfl⟩, fun _ h => by cases h⟩
theorem gfX20_1 : ∀ q ∈ ([(18, 1)] : List (Nat × Nat)), GF RX20 1 q := List.forall_mem_cons.mpr ⟨⟨RX20, TX20, 2, _, rfl, in_X20, by decide, q2425, Or.inl rfl⟩, fun _ h => by cases h⟩
theorem gfX20_17 : ∀ q ∈ ([(17, 0)] : List (Nat × Nat)), GN RX20 17 q := List.forall_mem_cons.mpr ⟨⟨RX19, TX19, 2, _, rfl, in_X19, by decide, q2400⟩, fun _ h => by cases h⟩
theorem gfX20_23 : ∀ q ∈ ([(10, 7)] : List (Nat × Nat)), GN RX20 23 q := List.forall_mem_cons.mpr ⟨⟨RX12, TX12, 15, _, rfl, in_X12, by decide, q931⟩, fun _ h => by cases h⟩
theorem lvX20_29_J2 : GoodIn lw_all (va_wsF RX20 29 RJ2 ⟨"java/util/List", "size", "()I"⟩ yJ2_size (ws_ yJ2_size cJ2_size 1 (some .int))) ∧ (RJ2, ⟨"java/util/List", "size", "()I"⟩, yJ2_size) ∈ FWL := ⟨lw_good (List.forall_mem_cons.mpr ⟨q378, List.forall_mem_cons.mpr ⟨q381, List.forall_mem_cons.mpr ⟨q383, List.forall_mem_cons.mpr ⟨q118, fun w h => (lw_meth q385 w h).1⟩⟩⟩⟩), List.mem_of_getElem? (i := 16) rfl⟩
theorem hdX20_29_J2 : (⟨"java/util/List", "size", "()I"⟩ : MethodName).cls ≠ "java/lang/invoke/MethodHandle" ∧ (⟨"java/util/List", "size", "()I"⟩ : MethodName).cls ≠ "java/lang/invoke/VarHandle" ∧ (parseMethodDescriptor (⟨"java/util/List", "size", "()I"⟩ : MethodName).desc).map (fun d => d.parameters.length) = some 0 := by decide +kernel
def fX20_hasNext (σ : St) (x0 : Nat) : Option Int32 := (gI σ x0 [(18, 0)]).bind fun v_1 : Int32 => (gR σ x0 [(18, 1)]).bind fun v_2 : Option Nat => (v_2).bind fun a_3 : Nat => (gR σ a_3 [(17, 0)]).bind fun v_4 : Option Nat => (v_4).bind fun a_5 : Nat => (gR σ a_5 [(10, 7)]).bind fun v_6 : Option Nat => (v_6).bind fun a_7 : Nat => (isC σ a_7 21).bind fun u_8 : Unit => (fJ2_size σ a_7).bind fun v_9 : Int32 => if v_9 ≤ v_1 then some (0 : Int32) else some (1 : Int32)
theorem wX20_hasNext_0 {E : EV} {l : Launch} {p : Program} {e : Env} {s : State} {m : MethodId} {args : Array Value} {below : List Frame} {meth : Method} {c : Code} {R : Room} {σ : St} {res : Int32} (hX : XK E) (hR : 1 ≤ R.frames ∧ 20 ≤ R.locals) (X : MX E p s m args meth c cX20_hasNext 1 (some .boolean) RX20 "hasNext") : ∀ (x0 : Nat) (H : Heap) (locs : List Loc) (cells slots : Nat) (ls : Array Slot), WI E R s σ H locs cells slots → lv_has ls 1 [(0, .ref x0)] → fX20_hasNext σ x0 = some res → W p l e R s m args below meth c H locs cells slots (MQ below (Qd E R.cells R.slots (some (.int res)) σ) args s R.cells R.slots (fr E)) (F0 m 0 ls []) := by
  intro x0 H locs cells slots ls I hl hf
  obtain ⟨⟨hx, hb, hml, hown, hts⟩, -⟩ := id X
  unfold fX20_hasNext at hf
  refine lv_aload_n hx hb dX20_hasNext_0 rfl (lv_at hl 0 rfl) ?_
  obtain ⟨v_1, ev_1, hf⟩ := ob hf
  refine g_get X I gfX20_13 (gI_in ev_1) dX20_hasNext_1 ?_
  refine lv_aload_n hx hb dX20_hasNext_4 rfl (lv_at hl 0 rfl) ?_
  obtain ⟨v_2, ev_2, hf⟩ := ob hf
  refine g_get X I gfX20_1 (gR_in ev_2) dX20_hasNext_5 ?_
  obtain ⟨a_3, ea_3, hga_3⟩ := ob hf
  have hla_3 := hl
  have Ia_3 := I
  subst ea_3
  have hf := hga_3
  have hl := hla_3
  have I := Ia_3
  obtain ⟨v_4, ev_4, hf⟩ := ob hf
  refine g_getN hX X I gfX20_17 (gR_in ev_4) dX20_hasNext_8 ?_
  obtain ⟨a_5, ea_5, hga_5⟩ := ob hf
  have hla_5 := hl
  have Ia_5 := I
  subst ea_5
  have hf := hga_5
  have hl := hla_5
  have I := Ia_5
  obtain ⟨v_6, ev_6, hf⟩ := ob hf
  refine g_getN hX X I gfX20_23 (gR_in ev_6) dX20_hasNext_11 ?_
  obtain ⟨a_7, ea_7, hga_7⟩ := ob hf
  have hla_7 := hl
  have Ia_7 := I
  subst ea_7
  have hf := hga_7
  have hl := hla_7
  have I := Ia_7
  obtain ⟨u_8, eu_8, hf⟩ := ob hf
  obtain ⟨v_9, ev_9, hf⟩ := ob hf
  refine cg_F (vw := (RJ2, TJ2, 3)) (ci := 21) (r := (some (.int v_9))) (σ' := σ) (rs := [.int v_9, .int v_1]) (rest := [.int v_1]) (As := []) hX X I eu_8 rfl (mJ2_size hX ev_9) lvX20_29_J2 hdX20_29_J2 ⟨Nat.le_trans (Nat.le_of_ble_eq_true rfl) hR.1, Nat.le_trans (Nat.le_of_ble_eq_true rfl) hR.2⟩ rfl hl.1 rfl (Nat.le_of_ble_eq_true rfl) rfl dX20_hasNext_14 (fun H locs cells slots I => ?_)
  refine lv_icmp_ge (tgt := 26) hx hb dX20_hasNext_19 (by decide) (fun c_19 => ?_) (fun c_19 => ?_)
  · have hf := ip c_19 hf
    refine lv_iconst (v := 0) hx hb dX20_hasNext_26 (by decide) ?_
    cases os hf
    exact r_zret X I (Or.inl rfl) dX20_hasNext_27
  · have hf := im c_19 hf
    refine lv_iconst (v := 1) hx hb dX20_hasNext_22 (by decide) ?_
    refine lv_goto (tgt := 27) hx hb dX20_hasNext_23 (by decide) ?_
    cases os hf
    exact r_zret X I (Or.inr rfl) dX20_hasNext_27
theorem mX20_hasNext {E : EV} {l : Launch} {σ : St} {x0 : Nat} {res : Int32} (hX : XK E) (hf : fX20_hasNext σ x0 = some res) : CM E l yX20_hasNext (ws_ yX20_hasNext cX20_hasNext 1 (some .boolean)) 1 20 [.ref x0] σ (some (.int res)) σ := by
  refine CM.of hX.1 (by decide) rfl rfl (Nat.le_of_ble_eq_true rfl) ?_
  intro p e s m below meth c X I ls hl
  exact wX20_hasNext_0 hX ⟨Nat.le_refl _, Nat.le_refl _⟩ X _ _ _ _ _ _ I hl hf
/-! java/lang/Integer.stringSize(I)I imp=False fuel=True kap=False rt=I thr=False -/
def fJ18_stringSize_16 (N : Nat) (σ : St) : Nat → Int32 → Int32 → Int32 → Int32 → Option Int32
  | 0, _, _, _, _ => none
  | n + 1, x0, x1, x2, x3 => if (10 : Int32) ≤ x3 then some ((10 : Int32) + x1) else if x0 ≤ x2 then lt ((10 : Int32) * x2) fun x2_1 : Int32 => lt (x3 + 1) fun x3_2 : Int32 => fJ18_stringSize_16 N σ n x0 x1 x2_1 x3_2 else some (x3 + x1)
def fJ18_stringSize_11 (N : Nat) (σ : St) (x0 : Int32) (x1 : Int32) : Option Int32 := fJ18_stringSize_16 N σ N x0 x1 (-10 : Int32) (1 : Int32)
def fJ18_stringSize (N : Nat) (σ : St) (x0 : Int32) : Option Int32 := if x0 < 0 then fJ18_stringSize_11 N σ x0 (1 : Int32) else lt (-x0) fun x0_3 : Int32 => fJ18_stringSize_11 N σ x0_3 (0 : Int32)
theorem wJ18_stringSize_16 {E : EV} {l : Launch} {p : Program} {e : Env} {s : State} {m : MethodId} {args : Array Value} {below : List Frame} {meth : Method} {c : Code} {R : Room} {σ : St} {res : Int32} (hX : XK E) (hR : 0 ≤ R.frames ∧ 0 ≤ R.locals) (X : MX E p s m args meth c cJ18_stringSize 4 (some .int) RJ18 "stringSize") (N : Nat) : ∀ (n : Nat) (x0 : Int32) (x1 : Int32) (x2 : Int32) (x3 : Int32) (H : Heap) (locs : List Loc) (cells slots : Nat) (ls : Array Slot), WI E R s σ H locs cells slots → lv_has ls 4 [(0, .int x0), (1, .int x1), (2, .int x2), (3, .int x3)] → fJ18_stringSize_16 N σ n x0 x1 x2 x3 = some res → W p l e R s m args below meth c H locs cells slots (MQ below (Qd E R.cells R.slots (some (.int res)) σ) args s R.cells R.slots (fr E)) (F0 m 16 ls []) := by
  intro n
  induction n with
  | zero => intro x0 x1 x2 x3 H locs cells slots ls I hl hf; exact nomatch (show none = some res from hf)
  | succ n ih =>
    intro x0 x1 x2 x3 H locs cells slots ls I hl hf
    obtain ⟨⟨hx, hb, hml, hown, hts⟩, -⟩ := id X
    rw [fJ18_stringSize_16.eq_2] at hf
    refine lv_iload_n hx hb dJ18_stringSize_16 rfl (lv_at hl 3 rfl) ?_
    refine lv_bipush (v := 10) hx hb dJ18_stringSize_17 (by decide) ?_
    refine lv_icmp_ge (tgt := 42) hx hb dJ18_stringSize_19 (by decide) (fun c_19 => ?_) (fun c_19 => ?_)
    · have hf := ip c_19 hf
      refine lv_bipush (v := 10) hx hb dJ18_stringSize_42 (by decide) ?_
      refine lv_iload_n hx hb dJ18_stringSize_44 rfl (lv_at hl 1 rfl) ?_
      refine lv_iadd hx hb dJ18_stringSize_45 ?_
      cases os hf
      exact r_iret X I dJ18_stringSize_46
    · have hf := im c_19 hf
      refine lv_iload_n hx hb dJ18_stringSize_22 rfl (lv_at hl 0 rfl) ?_
      refine lv_iload_n hx hb dJ18_stringSize_23 rfl (lv_at hl 2 rfl) ?_
      refine lv_icmp_le (tgt := 31) hx hb dJ18_stringSize_24 (by decide) (fun c_24 => ?_) (fun c_24 => ?_)
      · have hf := ip c_24 hf
        refine lv_bipush (v := 10) hx hb dJ18_stringSize_31 (by decide) ?_
        refine lv_iload_n hx hb dJ18_stringSize_33 rfl (lv_at hl 2 rfl) ?_
        refine lv_imul hx hb dJ18_stringSize_34 ?_
        obtain ⟨x2_1, ex2_1, hf⟩ := ol hf
        refine nm_i ex2_1 ?_
        refine lv_istore_n (lv' := [(2, .int x2_1), (0, .int x0), (1, .int x1), (3, .int x3)]) hx hb dJ18_stringSize_35 rfl hl (by decide) rfl (fun ls hl => ?_)
        obtain ⟨x3_2, ex3_2, hf⟩ := ol hf
        refine lv_iinc (v := x3_2) (lv' := [(3, .int x3_2), (2, .int x2_1), (0, .int x0), (1, .int x1)]) hx hb dJ18_stringSize_36 hl (k := 3) rfl ex3_2 (by decide) rfl (fun ls hl => ?_)
        refine lv_goto (tgt := 16) hx hb dJ18_stringSize_39 (by decide) ?_
        exact ih x0 x1 x2_1 x3_2 _ _ _ _ _ I (lv_sub hl [2, 3, 1, 0] rfl) hf
      · have hf := im c_24 hf
        refine lv_iload_n hx hb dJ18_stringSize_27 rfl (lv_at hl 3 rfl) ?_
        refine lv_iload_n hx hb dJ18_stringSize_28 rfl (lv_at hl 1 rfl) ?_
        refine lv_iadd hx hb dJ18_stringSize_29 ?_
        cases os hf
        exact r_iret X I dJ18_stringSize_30
theorem wJ18_stringSize_11 {E : EV} {l : Launch} {p : Program} {e : Env} {s : State} {m : MethodId} {args : Array Value} {below : List Frame} {meth : Method} {c : Code} {R : Room} {σ : St} {res : Int32} (hX : XK E) (hR : 0 ≤ R.frames ∧ 0 ≤ R.locals) (X : MX E p s m args meth c cJ18_stringSize 4 (some .int) RJ18 "stringSize") (N : Nat) : ∀ (x0 : Int32) (x1 : Int32) (H : Heap) (locs : List Loc) (cells slots : Nat) (ls : Array Slot), WI E R s σ H locs cells slots → lv_has ls 4 [(0, .int x0), (1, .int x1)] → fJ18_stringSize_11 N σ x0 x1 = some res → W p l e R s m args below meth c H locs cells slots (MQ below (Qd E R.cells R.slots (some (.int res)) σ) args s R.cells R.slots (fr E)) (F0 m 11 ls []) := by
  intro x0 x1 H locs cells slots ls I hl hf
  obtain ⟨⟨hx, hb, hml, hown, hts⟩, -⟩ := id X
  unfold fJ18_stringSize_11 at hf
  refine lv_bipush (v := (-10)) hx hb dJ18_stringSize_11 (by decide) ?_
  refine lv_istore_n (lv' := [(2, .int (-10 : Int32)), (0, .int x0), (1, .int x1)]) hx hb dJ18_stringSize_13 rfl hl (by decide) rfl (fun ls hl => ?_)
  refine lv_iconst (v := 1) hx hb dJ18_stringSize_14 (by decide) ?_
  refine lv_istore_n (lv' := [(3, .int (1 : Int32)), (2, .int (-10 : Int32)), (0, .int x0), (1, .int x1)]) hx hb dJ18_stringSize_15 rfl hl (by decide) rfl (fun ls hl => ?_)
  exact wJ18_stringSize_16 hX hR X N N x0 x1 (-10 : Int32) (1 : Int32) _ _ _ _ _ I (lv_sub hl [2, 3, 1, 0] rfl) hf
theorem wJ18_stringSize_0 {E : EV} {l : Launch} {p : Program} {e : Env} {s : State} {m : MethodId} {args : Array Value} {below : List Frame} {meth : Method} {c : Code} {R : Room} {σ : St} {res : Int32} (hX : XK E) (hR : 0 ≤ R.frames ∧ 0 ≤ R.locals) (X : MX E p s m args meth c cJ18_stringSize 4 (some .int) RJ18 "stringSize") (N : Nat) : ∀ (x0 : Int32) (H : Heap) (locs : List Loc) (cells slots : Nat) (ls : Array Slot), WI E R s σ H locs cells slots → lv_has ls 4 [(0, .int x0)] → fJ18_stringSize N σ x0 = some res → W p l e R s m args below meth c H locs cells slots (MQ below (Qd E R.cells R.slots (some (.int res)) σ) args s R.cells R.slots (fr E)) (F0 m 0 ls []) := by
  intro x0 H locs cells slots ls I hl hf
  obtain ⟨⟨hx, hb, hml, hown, hts⟩, -⟩ := id X
  unfold fJ18_stringSize at hf
  refine lv_iconst (v := 1) hx hb dJ18_stringSize_0 (by decide) ?_
  refine lv_istore_n (lv' := [(1, .int (1 : Int32)), (0, .int x0)]) hx hb dJ18_stringSize_1 rfl hl (by decide) rfl (fun ls hl => ?_)
  refine lv_iload_n hx hb dJ18_stringSize_2 rfl (lv_at hl 1 rfl) ?_
  refine lv_if_lt (tgt := 11) hx hb dJ18_stringSize_3 (by decide) (fun c_3 => ?_) (fun c_3 => ?_)
  · have hf := ip c_3 hf
    exact wJ18_stringSize_11 hX hR X N x0 (1 : Int32) _ _ _ _ _ I (lv_sub hl [1, 0] rfl) hf
  · have hf := im c_3 hf
    refine lv_iconst (v := 0) hx hb dJ18_stringSize_6 (by decide) ?_
    refine lv_istore_n (lv' := [(1, .int (0 : Int32)), (0, .int x0)]) hx hb dJ18_stringSize_7 rfl hl (by decide) rfl (fun ls hl => ?_)
    refine lv_iload_n hx hb dJ18_stringSize_8 rfl (lv_at hl 1 rfl) ?_
    refine lv_ineg hx hb dJ18_stringSize_9 ?_
    obtain ⟨x0_3, ex0_3, hf⟩ := ol hf
    refine nm_i ex0_3 ?_
    refine lv_istore_n (lv' := [(0, .int x0_3), (1, .int (0 : Int32))]) hx hb dJ18_stringSize_10 rfl hl (by decide) rfl (fun ls hl => ?_)
    exact wJ18_stringSize_11 hX hR X N x0_3 (0 : Int32) _ _ _ _ _ I (lv_sub hl [0, 1] rfl) hf
theorem mJ18_stringSize {E : EV} {l : Launch} {N : Nat} {σ : St} {x0 : Int32} {res : Int32} (hX : XK E) (hf : fJ18_stringSize N σ x0 = some res) : CM E l yJ18_stringSize (ws_ yJ18_stringSize cJ18_stringSize 4 (some .int)) 0 0 [.int x0] σ (some (.int res)) σ := by
  refine CM.of hX.1 (by decide) rfl rfl (Nat.le_of_ble_eq_true rfl) ?_
  intro p e s m below meth c X I ls hl
  exact wJ18_stringSize_0 hX ⟨Nat.le_refl _, Nat.le_refl _⟩ X N _ _ _ _ _ _ I hl hf
