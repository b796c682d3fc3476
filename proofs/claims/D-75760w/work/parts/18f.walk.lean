/-! walks over the abstract heap (printed by gen/gwalk.py) -/
set_option maxRecDepth 100000
/-! java/util/ArrayDeque.removeFirst()Ljava/lang/Object; imp=True fuel=False kap=False rt=O thr=False -/
theorem lvJ3_93 : GoodIn lw_all (wsV RJ3 93 RJ3 yJ3_pollFirst (ws_ yJ3_pollFirst cJ3_pollFirst 4 (some (.object "java/lang/Object")))) := lw_V q2063 q2064 q2065 q119 q2066
theorem hdJ3_93 : yJ3_pollFirst.cls = RJ3 ∧ yJ3_pollFirst.cls ≠ "java/lang/invoke/MethodHandle" ∧ yJ3_pollFirst.cls ≠ "java/lang/invoke/VarHandle" ∧ (parseMethodDescriptor yJ3_pollFirst.desc).map (fun d => d.parameters.length) = some 0 := by decide +kernel
def fJ3_removeFirst (σ : St) (x0 : Nat) : Option ((Option Nat) × St) := (isC σ x0 22).bind fun u_1 : Unit => (fJ3_pollFirst σ x0).bind fun (v_2, σ_3) => oc v_2 (none) fun a_4 => some (((some a_4)), σ_3)
theorem wJ3_removeFirst_0 {E : EV} {l : Launch} {p : Program} {e : Env} {s : State} {m : MethodId} {args : Array Value} {below : List Frame} {meth : Method} {c : Code} {R : Room} {res : ((Option Nat) × St)} (hX : XK E) (hR : 2 ≤ R.frames ∧ 44 ≤ R.locals) (X : MX E p s m args meth c cJ3_removeFirst 2 (some (.object "java/lang/Object")) RJ3 "removeFirst") : ∀ (x0 : Nat) (σ : St) (H : Heap) (locs : List Loc) (cells slots : Nat) (ls : Array Slot), WI E R s σ H locs cells slots → lv_has ls 2 [(0, .ref x0)] → fJ3_removeFirst σ x0 = some res → W p l e R s m args below meth c H locs cells slots (MQ below (Qd E R.cells R.slots (some (va_rf res.1)) res.2) args s R.cells R.slots (fr E)) (F0 m 0 ls []) := by
  intro x0 σ H locs cells slots ls I hl hf
  obtain ⟨⟨hx, hb, hml, hown, hts⟩, -⟩ := id X
  unfold fJ3_removeFirst at hf
  refine lv_aload_n hx hb dJ3_removeFirst_0 rfl (lv_at hl 0 rfl) ?_
  obtain ⟨u_1, eu_1, hf⟩ := ob hf
  obtain ⟨⟨v_2, σ_3⟩, ev_2, hf⟩ := ob hf
  refine cg_V (vw := (RJ3, TJ3, 3)) (ci := 22) (r := (some (va_rf v_2))) (σ' := σ_3) (rs := [va_rf v_2]) (rest := []) (As := []) X I eu_1 rfl (mJ3_pollFirst hX ev_2) lvJ3_93 hdJ3_93 ⟨Nat.le_trans (Nat.le_of_ble_eq_true rfl) hR.1, Nat.le_trans (Nat.le_of_ble_eq_true rfl) hR.2⟩ rfl hl.1 rfl (Nat.le_of_ble_eq_true rfl) rfl dJ3_removeFirst_1 (fun H locs cells slots I => ?_)
  refine lo_astore_n (x := v_2) (lv' := [(1, va_rf v_2), (0, .ref x0)]) hx hb dJ3_removeFirst_4 rfl hl (by decide) rfl (fun ls hl => ?_)
  refine lo_aload_n (x := v_2) hx hb dJ3_removeFirst_5 rfl (lv_at hl 0 rfl) ?_
  have hga_4 := hf
  have hla_4 := hl
  have Ia_4 := I
  rcases v_2 with _ | a_4
  · have hf := oc_n hga_4
    have hl := hla_4
    have I := Ia_4
    refine lv_ifnonnullN hx hb dJ3_removeFirst_6 ?_
    exact nomatch hf
  · have hf := oc_s hga_4
    have hl := hla_4
    have I := Ia_4
    refine lv_ifnonnull (tgt := 17) hx hb dJ3_removeFirst_6 (by decide) ?_
    refine lv_aload_n hx hb dJ3_removeFirst_17 rfl (lv_at hl 0 rfl) ?_
    cases os hf
    exact r_aret X I (Or.inl ⟨_, rfl⟩) (rf_or _) dJ3_removeFirst_18
theorem mJ3_removeFirst {E : EV} {l : Launch} {σ : St} {x0 : Nat} {res : ((Option Nat) × St)} (hX : XK E) (hf : fJ3_removeFirst σ x0 = some res) : CM E l yJ3_removeFirst (ws_ yJ3_removeFirst cJ3_removeFirst 2 (some (.object "java/lang/Object"))) 2 44 [.ref x0] σ (some (va_rf res.1)) res.2 := by
  refine CM.of hX.1 (by decide) rfl rfl (Nat.le_of_ble_eq_true rfl) ?_
  intro p e s m below meth c X I ls hl
  exact wJ3_removeFirst_0 hX ⟨Nat.le_refl _, Nat.le_refl _⟩ X _ _ _ _ _ _ _ I hl hf
/-! java/util/ArrayList.addAll(Ljava/util/Collection;)Z imp=True fuel=False kap=True rt=I thr=False -/
def fJ2_addAll_56 (κ : Nat → Nat) (x0 : Nat) (x2 : Nat) (x3 : Int32) (x4 : Option Nat) (x5 : Int32) (σ : St) : Option (Int32 × St) := (x4).bind fun a_1 : Nat => (cpR σ x2 3 (0 : Int32) a_1 x5 x3).bind fun σ_2 : St => (pV σ_2 x0 [(21, 2)] (.int (x5 + x3))).bind fun σ_3 : St => some ((1 : Int32), σ_3)
def fJ2_addAll (κ : Nat → Nat) (σ : St) (x0 : Nat) (x1 : Nat) : Option (Int32 × St) := (isC σ x1 21).bind fun u_4 : Unit => (fJ2_toArray κ σ x1).bind fun (v_5, σ_6) => (gI σ_6 x0 [(21, 0)]).bind fun v_7 : Int32 => (pV σ_6 x0 [(21, 0)] (.int (v_7 + (1 : Int32)))).bind fun σ_8 : St => (aL σ_8 v_5).bind fun v_9 : Int32 => if v_9 = 0 then some ((0 : Int32), σ_8) else (gR σ_8 x0 [(21, 1)]).bind fun v_10 : Option Nat => (v_10).bind fun a_11 : Nat => (aL σ_8 a_11).bind fun v_12 : Int32 => (gI σ_8 x0 [(21, 2)]).bind fun v_13 : Int32 => if v_9 ≤ (v_12 - v_13) then fJ2_addAll_56 κ x0 v_5 v_9 (some a_11) v_13 σ_8 else (isC σ_8 x0 21).bind fun u_14 : Unit => (fJ2_grow κ σ_8 x0 (v_13 + v_9)).bind fun (v_15, σ_16) => fJ2_addAll_56 κ x0 v_5 v_9 (some v_15) v_13 σ_16
theorem wJ2_addAll_56 {E : EV} {l : Launch} {p : Program} {e : Env} {s : State} {m : MethodId} {args : Array Value} {below : List Frame} {meth : Method} {c : Code} {R : Room} {res : (Int32 × St)} (hX : XK E) (hR : 4 ≤ R.frames ∧ 107 ≤ R.locals) (X : MX E p s m args meth c cJ2_addAll 6 (some .boolean) RJ2 "addAll") : ∀ (x0 : Nat) (x2 : Nat) (x3 : Int32) (x4 : Option Nat) (x5 : Int32) (σ : St) (H : Heap) (locs : List Loc) (cells slots : Nat) (ls : Array Slot), WI E R s σ H locs cells slots → lv_has ls 6 [(0, .ref x0), (2, .ref x2), (3, .int x3), (4, va_rf x4), (5, .int x5)] → fJ2_addAll_56 E.2.2.2.1 x0 x2 x3 x4 x5 σ = some res → W p l e R s m args below meth c H locs cells slots (MQ below (Qd E R.cells R.slots (some (.int res.1)) res.2) args s R.cells R.slots (fr E)) (F0 m 56 ls []) := by
  intro x0 x2 x3 x4 x5 σ H locs cells slots ls I hl hf
  obtain ⟨⟨hx, hb, hml, hown, hts⟩, -⟩ := id X
  unfold fJ2_addAll_56 at hf
  refine lv_aload_n hx hb dJ2_addAll_56 rfl (lv_at hl 1 rfl) ?_
  refine lv_iconst (v := 0) hx hb dJ2_addAll_57 (by decide) ?_
  refine lo_aload (x := x4) hx hb dJ2_addAll_58 (lv_at hl 3 rfl) ?_
  refine lv_iload hx hb dJ2_addAll_60 (lv_at hl 4 rfl) ?_
  refine lv_iload_n hx hb dJ2_addAll_62 rfl (lv_at hl 2 rfl) ?_
  obtain ⟨a_1, ea_1, hga_1⟩ := ob hf
  have hla_1 := hl
  have Ia_1 := I
  subst ea_1
  have hf := hga_1
  have hl := hla_1
  have I := Ia_1
  obtain ⟨σ_2, eσ_2, hf⟩ := ob hf
  refine g_copyR hX X I (by decide) q1073 eσ_2 hl.1 ⟨Nat.le_trans (Nat.le_of_ble_eq_true rfl) hR.1, Nat.le_trans (Nat.le_of_ble_eq_true rfl) hR.2⟩ (Nat.le_of_ble_eq_true rfl) dJ2_addAll_63 (fun H locs I => ?_)
  refine lv_aload_n hx hb dJ2_addAll_66 rfl (lv_at hl 0 rfl) ?_
  refine lv_iload hx hb dJ2_addAll_67 (lv_at hl 4 rfl) ?_
  refine lv_iload_n hx hb dJ2_addAll_69 rfl (lv_at hl 2 rfl) ?_
  refine lv_iadd hx hb dJ2_addAll_70 ?_
  obtain ⟨σ_3, eσ_3, hf⟩ := ob hf
  refine g_put X I pfJ2_48 rfl rfl eσ_3 dJ2_addAll_71 (fun H locs I => ?_)
  refine lv_iconst (v := 1) hx hb dJ2_addAll_74 (by decide) ?_
  cases os hf
  exact r_zret X I (Or.inr rfl) dJ2_addAll_75
theorem wJ2_addAll_0 {E : EV} {l : Launch} {p : Program} {e : Env} {s : State} {m : MethodId} {args : Array Value} {below : List Frame} {meth : Method} {c : Code} {R : Room} {res : (Int32 × St)} (hX : XK E) (hR : 4 ≤ R.frames ∧ 107 ≤ R.locals) (X : MX E p s m args meth c cJ2_addAll 6 (some .boolean) RJ2 "addAll") : ∀ (x0 : Nat) (x1 : Nat) (σ : St) (H : Heap) (locs : List Loc) (cells slots : Nat) (ls : Array Slot), WI E R s σ H locs cells slots → lv_has ls 6 [(0, .ref x0), (1, .ref x1)] → fJ2_addAll E.2.2.2.1 σ x0 x1 = some res → W p l e R s m args below meth c H locs cells slots (MQ below (Qd E R.cells R.slots (some (.int res.1)) res.2) args s R.cells R.slots (fr E)) (F0 m 0 ls []) := by
  intro x0 x1 σ H locs cells slots ls I hl hf
  obtain ⟨⟨hx, hb, hml, hown, hts⟩, -⟩ := id X
  unfold fJ2_addAll at hf
  refine lv_aload_n hx hb dJ2_addAll_0 rfl (lv_at hl 1 rfl) ?_
  obtain ⟨u_4, eu_4, hf⟩ := ob hf
  obtain ⟨⟨v_5, σ_6⟩, ev_5, hf⟩ := ob hf
  refine cg_F (vw := (RJ2, TJ2, 3)) (ci := 21) (r := (some (.ref v_5))) (σ' := σ_6) (rs := [.ref v_5]) (rest := []) (As := []) hX X I eu_4 rfl (mJ2_toArray hX ev_5) lvJ2_42_J2 hdJ2_42_J2 ⟨Nat.le_trans (Nat.le_of_ble_eq_true rfl) hR.1, Nat.le_trans (Nat.le_of_ble_eq_true rfl) hR.2⟩ rfl hl.1 rfl (Nat.le_of_ble_eq_true rfl) rfl dJ2_addAll_1 (fun H locs cells slots I => ?_)
  refine lv_astore_n (lv' := [(2, .ref v_5), (0, .ref x0), (1, .ref x1)]) hx hb dJ2_addAll_6 rfl hl (by decide) rfl (fun ls hl => ?_)
  refine lv_aload_n hx hb dJ2_addAll_7 rfl (lv_at hl 1 rfl) ?_
  refine lv_dup hx hb dJ2_addAll_8 rfl ?_
  obtain ⟨v_7, ev_7, hf⟩ := ob hf
  refine g_get X I gfJ2_63 (gI_in ev_7) dJ2_addAll_9 ?_
  refine lv_iconst (v := 1) hx hb dJ2_addAll_12 (by decide) ?_
  refine lv_iadd hx hb dJ2_addAll_13 ?_
  obtain ⟨σ_8, eσ_8, hf⟩ := ob hf
  refine g_put X I pfJ2_63 rfl rfl eσ_8 dJ2_addAll_14 (fun H locs I => ?_)
  refine lv_aload_n hx hb dJ2_addAll_17 rfl (lv_at hl 0 rfl) ?_
  obtain ⟨v_9, ev_9, hf⟩ := ob hf
  refine g_alen X I ev_9 dJ2_addAll_18 ?_
  refine lv_istore_n (lv' := [(3, .int v_9), (2, .ref v_5), (0, .ref x0), (1, .ref x1)]) hx hb dJ2_addAll_19 rfl hl (by decide) rfl (fun ls hl => ?_)
  refine lv_iload_n hx hb dJ2_addAll_20 rfl (lv_at hl 0 rfl) ?_
  refine lv_if_ne (tgt := 26) hx hb dJ2_addAll_21 (by decide) (fun c_21 => ?_) (fun c_21 => ?_)
  · have hf := im c_21 hf
    refine lv_iload_n hx hb dJ2_addAll_26 rfl (lv_at hl 0 rfl) ?_
    refine lv_aload_n hx hb dJ2_addAll_27 rfl (lv_at hl 2 rfl) ?_
    obtain ⟨v_10, ev_10, hf⟩ := ob hf
    refine g_get X I gfJ2_9 (gR_in ev_10) dJ2_addAll_28 ?_
    refine lv_dup hx hb dJ2_addAll_31 (rf_cat _) ?_
    refine lo_astore (x := v_10) (lv' := [(4, va_rf v_10), (3, .int v_9), (2, .ref v_5), (0, .ref x0), (1, .ref x1)]) hx hb dJ2_addAll_32 hl (by decide) rfl (fun ls hl => ?_)
    obtain ⟨a_11, ea_11, hga_11⟩ := ob hf
    have hla_11 := hl
    have Ia_11 := I
    subst ea_11
    have hf := hga_11
    have hl := hla_11
    have I := Ia_11
    obtain ⟨v_12, ev_12, hf⟩ := ob hf
    refine g_alen X I ev_12 dJ2_addAll_34 ?_
    refine lv_aload_n hx hb dJ2_addAll_35 rfl (lv_at hl 3 rfl) ?_
    obtain ⟨v_13, ev_13, hf⟩ := ob hf
    refine g_get X I gfJ2_48 (gI_in ev_13) dJ2_addAll_36 ?_
    refine lv_dup hx hb dJ2_addAll_39 rfl ?_
    refine lv_istore (lv' := [(5, .int v_13), (4, .ref a_11), (3, .int v_9), (2, .ref v_5), (0, .ref x0), (1, .ref x1)]) hx hb dJ2_addAll_40 hl (by decide) rfl (fun ls hl => ?_)
    refine lv_isub hx hb dJ2_addAll_42 ?_
    refine lv_icmp_le (tgt := 56) hx hb dJ2_addAll_43 (by decide) (fun c_43 => ?_) (fun c_43 => ?_)
    · have hf := ip c_43 hf
      exact wJ2_addAll_56 hX hR X x0 v_5 v_9 (some a_11) v_13 σ_8 _ _ _ _ _ I (lv_sub hl [4, 3, 2, 1, 0] rfl) hf
    · have hf := im c_43 hf
      refine lv_aload_n hx hb dJ2_addAll_46 rfl (lv_at hl 4 rfl) ?_
      refine lv_iload hx hb dJ2_addAll_47 (lv_at hl 0 rfl) ?_
      refine lv_iload_n hx hb dJ2_addAll_49 rfl (lv_at hl 2 rfl) ?_
      refine lv_iadd hx hb dJ2_addAll_50 ?_
      obtain ⟨u_14, eu_14, hf⟩ := ob hf
      obtain ⟨⟨v_15, σ_16⟩, ev_15, hf⟩ := ob hf
      refine cg_V (vw := (RJ2, TJ2, 3)) (ci := 21) (r := (some (.ref v_15))) (σ' := σ_16) (rs := [.ref v_15]) (rest := []) (As := [.int (v_13 + v_9)]) X I eu_14 rfl (mJ2_grow hX ev_15) lvJ2_69 hdJ2_69 ⟨Nat.le_trans (Nat.le_of_ble_eq_true rfl) hR.1, Nat.le_trans (Nat.le_of_ble_eq_true rfl) hR.2⟩ rfl hl.1 rfl (Nat.le_of_ble_eq_true rfl) rfl dJ2_addAll_51 (fun H locs cells slots I => ?_)
      refine lv_astore (lv' := [(4, .ref v_15), (5, .int v_13), (3, .int v_9), (2, .ref v_5), (0, .ref x0), (1, .ref x1)]) hx hb dJ2_addAll_54 hl (by decide) rfl (fun ls hl => ?_)
      exact wJ2_addAll_56 hX hR X x0 v_5 v_9 (some v_15) v_13 σ_16 _ _ _ _ _ I (lv_sub hl [4, 3, 2, 0, 1] rfl) hf
  · have hf := ip c_21 hf
    refine lv_iconst (v := 0) hx hb dJ2_addAll_24 (by decide) ?_
    cases os hf
    exact r_zret X I (Or.inl rfl) dJ2_addAll_25
theorem mJ2_addAll {E : EV} {l : Launch} {σ : St} {x0 : Nat} {x1 : Nat} {res : (Int32 × St)} (hX : XK E) (hf : fJ2_addAll E.2.2.2.1 σ x0 x1 = some res) : CM E l yJ2_addAll (ws_ yJ2_addAll cJ2_addAll 6 (some .boolean)) 4 107 [.ref x0, .ref x1] σ (some (.int res.1)) res.2 := by
  refine CM.of hX.1 (by decide) rfl rfl (Nat.le_of_ble_eq_true rfl) ?_
  intro p e s m below meth c X I ls hl
  exact wJ2_addAll_0 hX ⟨Nat.le_refl _, Nat.le_refl _⟩ X _ _ _ _ _ _ _ _ I hl hf
/-! SharedTaxis$Taxi.<init>(LSharedTaxis$Taxi;)V imp=True fuel=False kap=True rt=None thr=False -/
theorem gfX12_25 : ∀ q ∈ ([(10, 0)] : List (Nat × Nat)), GF RX12 25 q := List.forall_mem_cons.mpr ⟨⟨RX12, TX12, 15, _, rfl, in_X12, by decide, q905, Or.inl rfl⟩, fun _ h => by cases h⟩
theorem gfX12_28 : ∀ q ∈ ([(10, 2)] : List (Nat × Nat)), GF RX12 28 q := List.forall_mem_cons.mpr ⟨⟨RX12, TX12, 15, _, rfl, in_X12, by decide, q910, Or.inl rfl⟩, fun _ h => by cases h⟩
theorem gfX12_31 : ∀ q ∈ ([(10, 1)] : List (Nat × Nat)), GF RX12 31 q := List.forall_mem_cons.mpr ⟨⟨RX12, TX12, 15, _, rfl, in_X12, by decide, q908, Or.inl rfl⟩, fun _ h => by cases h⟩
theorem gfX12_34 : ∀ q ∈ ([(10, 4)] : List (Nat × Nat)), GF RX12 34 q := List.forall_mem_cons.mpr ⟨⟨RX12, TX12, 15, _, rfl, in_X12, by decide, q918, Or.inl rfl⟩, fun _ h => by cases h⟩
theorem lvX12_40 : GoodIn lw_all (ws_ yX12_init_2 cX12_init_2 5 none) ∧ Cond.initialized yX12_init_2.cls ∈ lw_all ∧ Cond.methodLink RX12 40 yX12_init_2 ∈ lw_all ∧ Cond.instanceMethod yX12_init_2 ∈ lw_all ∧ yX12_init_2.name = "<init>" := ⟨lw_meth q901, q145, q899, q900, rfl⟩
theorem hdX12_40 : yX12_init_2.cls ≠ "java/lang/invoke/MethodHandle" ∧ yX12_init_2.cls ≠ "java/lang/invoke/VarHandle" ∧ (parseMethodDescriptor yX12_init_2.desc).map (fun d => d.parameters.length) = some 4 := by decide +kernel
theorem gfX12_37 : ∀ q ∈ ([(10, 3)] : List (Nat × Nat)), GF RX12 37 q := List.forall_mem_cons.mpr ⟨⟨RX12, TX12, 15, _, rfl, in_X12, by decide, q914, Or.inl rfl⟩, fun _ h => by cases h⟩
theorem gfX12_43 : ∀ q ∈ ([(10, 5)] : List (Nat × Nat)), GF RX12 43 q := List.forall_mem_cons.mpr ⟨⟨RX12, TX12, 15, _, rfl, in_X12, by decide, q921, Or.inl rfl⟩, fun _ h => by cases h⟩
theorem pfX12_43 : ∀ q ∈ ([(10, 5)] : List (Nat × Nat)), PF RX12 43 .int q := List.forall_mem_cons.mpr ⟨⟨RX12, TX12, 15, _, tyX12, rfl, in_X12, by decide, q921, Or.inl rfl, tyX12_ok, nmX12, rfl, rfl⟩, fun _ h => by cases h⟩
theorem gfX12_9 : ∀ q ∈ ([(10, 6)] : List (Nat × Nat)), GF RX12 9 q := List.forall_mem_cons.mpr ⟨⟨RX12, TX12, 15, _, rfl, in_X12, by decide, q925, Or.inl rfl⟩, fun _ h => by cases h⟩
theorem gfX12_18 : ∀ q ∈ ([(10, 7)] : List (Nat × Nat)), GF RX12 18 q := List.forall_mem_cons.mpr ⟨⟨RX12, TX12, 15, _, rfl, in_X12, by decide, q930, Or.inl rfl⟩, fun _ h => by cases h⟩
theorem lvX12_46_J2 : GoodIn lw_all (va_wsF RX12 46 RJ2 ⟨"java/util/List", "addAll", "(Ljava/util/Collection;)Z"⟩ yJ2_addAll (ws_ yJ2_addAll cJ2_addAll 6 (some .boolean))) ∧ (RJ2, ⟨"java/util/List", "addAll", "(Ljava/util/Collection;)Z"⟩, yJ2_addAll) ∈ FWL := ⟨lw_good (List.forall_mem_cons.mpr ⟨q987, List.forall_mem_cons.mpr ⟨q990, List.forall_mem_cons.mpr ⟨q992, List.forall_mem_cons.mpr ⟨q118, fun w h => (lw_meth q994 w h).1⟩⟩⟩⟩), List.mem_of_getElem? (i := 8) rfl⟩
theorem hdX12_46_J2 : (⟨"java/util/List", "addAll", "(Ljava/util/Collection;)Z"⟩ : MethodName).cls ≠ "java/lang/invoke/MethodHandle" ∧ (⟨"java/util/List", "addAll", "(Ljava/util/Collection;)Z"⟩ : MethodName).cls ≠ "java/lang/invoke/VarHandle" ∧ (parseMethodDescriptor (⟨"java/util/List", "addAll", "(Ljava/util/Collection;)Z"⟩ : MethodName).desc).map (fun d => d.parameters.length) = some 1 := by decide +kernel
theorem gfX12_22 : ∀ q ∈ ([(10, 8)] : List (Nat × Nat)), GF RX12 22 q := List.forall_mem_cons.mpr ⟨⟨RX12, TX12, 15, _, rfl, in_X12, by decide, q935, Or.inl rfl⟩, fun _ h => by cases h⟩
theorem pfX12_52 : ∀ q ∈ ([(10, 9)] : List (Nat × Nat)), PF RX12 52 .int q := List.forall_mem_cons.mpr ⟨⟨RX12, TX12, 15, _, tyX12, rfl, in_X12, by decide, q941, Or.inl rfl, tyX12_ok, nmX12, rfl, rfl⟩, fun _ h => by cases h⟩
theorem pfX12_55 : ∀ q ∈ ([(10, 10)] : List (Nat × Nat)), PF RX12 55 .int q := List.forall_mem_cons.mpr ⟨⟨RX12, TX12, 15, _, tyX12, rfl, in_X12, by decide, q943, Or.inl rfl, tyX12_ok, nmX12, rfl, rfl⟩, fun _ h => by cases h⟩
theorem pfX12_58 : ∀ q ∈ ([(10, 11)] : List (Nat × Nat)), PF RX12 58 .int q := List.forall_mem_cons.mpr ⟨⟨RX12, TX12, 15, _, tyX12, rfl, in_X12, by decide, q945, Or.inl rfl, tyX12_ok, nmX12, rfl, rfl⟩, fun _ h => by cases h⟩
theorem pfX12_61 : ∀ q ∈ ([(10, 12)] : List (Nat × Nat)), PF RX12 61 .int q := List.forall_mem_cons.mpr ⟨⟨RX12, TX12, 15, _, tyX12, rfl, in_X12, by decide, q947, Or.inl rfl, tyX12_ok, nmX12, rfl, rfl⟩, fun _ h => by cases h⟩
theorem pfX12_64 : ∀ q ∈ ([(10, 13)] : List (Nat × Nat)), PF RX12 64 .int q := List.forall_mem_cons.mpr ⟨⟨RX12, TX12, 15, _, tyX12, rfl, in_X12, by decide, q950, Or.inl rfl, tyX12_ok, nmX12, rfl, rfl⟩, fun _ h => by cases h⟩
theorem pfX12_67 : ∀ q ∈ ([(10, 14)] : List (Nat × Nat)), PF RX12 67 .int q := List.forall_mem_cons.mpr ⟨⟨RX12, TX12, 15, _, tyX12, rfl, in_X12, by decide, q953, Or.inl rfl, tyX12_ok, nmX12, rfl, rfl⟩, fun _ h => by cases h⟩
def fX12_init (κ : Nat → Nat) (σ : St) (x0 : Nat) (x1 : Nat) : Option St := (gI σ x1 [(10, 0)]).bind fun v_1 : Int32 => (gI σ x1 [(10, 2)]).bind fun v_2 : Int32 => (gI σ x1 [(10, 1)]).bind fun v_3 : Int32 => (gI σ x1 [(10, 4)]).bind fun v_4 : Int32 => (fX12_init_2 κ σ x0 v_1 v_2 v_3 v_4).bind fun σ_6 : St => (gI σ_6 x1 [(10, 3)]).bind fun v_7 : Int32 => (pV σ_6 x0 [(10, 3)] (.int v_7)).bind fun σ_8 : St => (gI σ_8 x1 [(10, 5)]).bind fun v_9 : Int32 => (pV σ_8 x0 [(10, 5)] (.int v_9)).bind fun σ_10 : St => (gI σ_10 x1 [(10, 6)]).bind fun v_11 : Int32 => (pV σ_10 x0 [(10, 6)] (.int v_11)).bind fun σ_12 : St => (gR σ_12 x0 [(10, 7)]).bind fun v_13 : Option Nat => (gR σ_12 x1 [(10, 7)]).bind fun v_14 : Option Nat => (v_14).bind fun a_15 : Nat => (v_13).bind fun a_16 : Nat => (isC σ_12 a_16 21).bind fun u_17 : Unit => (fJ2_addAll κ σ_12 a_16 a_15).bind fun (v_18, σ_19) => (gR σ_19 x0 [(10, 8)]).bind fun v_20 : Option Nat => (gR σ_19 x1 [(10, 8)]).bind fun v_21 : Option Nat => (v_21).bind fun a_22 : Nat => (v_20).bind fun a_23 : Nat => (isC σ_19 a_23 21).bind fun u_24 : Unit => (fJ2_addAll κ σ_19 a_23 a_22).bind fun (v_25, σ_26) => (gI σ_26 x1 [(10, 9)]).bind fun v_27 : Int32 => (pV σ_26 x0 [(10, 9)] (.int v_27)).bind fun σ_28 : St => (gI σ_28 x1 [(10, 10)]).bind fun v_29 : Int32 => (pV σ_28 x0 [(10, 10)] (.int v_29)).bind fun σ_30 : St => (gI σ_30 x1 [(10, 11)]).bind fun v_31 : Int32 => (pV σ_30 x0 [(10, 11)] (.int v_31)).bind fun σ_32 : St => (gI σ_32 x1 [(10, 12)]).bind fun v_33 : Int32 => (pV σ_32 x0 [(10, 12)] (.int v_33)).bind fun σ_34 : St => (gI σ_34 x1 [(10, 13)]).bind fun v_35 : Int32 => (pV σ_34 x0 [(10, 13)] (.int v_35)).bind fun σ_36 : St => (gI σ_36 x1 [(10, 14)]).bind fun v_37 : Int32 => (pV σ_36 x0 [(10, 14)] (.int v_37)).bind fun σ_38 : St => some σ_38
theorem wX12_init_0 {E : EV} {l : Launch} {p : Program} {e : Env} {s : State} {m : MethodId} {args : Array Value} {below : List Frame} {meth : Method} {c : Code} {R : Room} {res : St} (hX : XK E) (hR : 5 ≤ R.frames ∧ 132 ≤ R.locals) (X : MX E p s m args meth c cX12_init 2 none RX12 "<init>") : ∀ (x0 : Nat) (x1 : Nat) (σ : St) (H : Heap) (locs : List Loc) (cells slots : Nat) (ls : Array Slot), WI E R s σ H locs cells slots → lv_has ls 2 [(0, .ref x0), (1, .ref x1)] → fX12_init E.2.2.2.1 σ x0 x1 = some res → W p l e R s m args below meth c H locs cells slots (MQ below (Qd E R.cells R.slots none res) args s R.cells R.slots (fr E)) (F0 m 0 ls []) := by
  intro x0 x1 σ H locs cells slots ls I hl hf
  obtain ⟨⟨hx, hb, hml, hown, hts⟩, -⟩ := id X
  unfold fX12_init at hf
  refine lv_aload_n hx hb dX12_init_0 rfl (lv_at hl 0 rfl) ?_
  refine lv_aload_n hx hb dX12_init_1 rfl (lv_at hl 1 rfl) ?_
  obtain ⟨v_1, ev_1, hf⟩ := ob hf
  refine g_get X I gfX12_25 (gI_in ev_1) dX12_init_2 ?_
  refine lv_aload_n hx hb dX12_init_5 rfl (lv_at hl 1 rfl) ?_
  obtain ⟨v_2, ev_2, hf⟩ := ob hf
  refine g_get X I gfX12_28 (gI_in ev_2) dX12_init_6 ?_
  refine lv_aload_n hx hb dX12_init_9 rfl (lv_at hl 1 rfl) ?_
  obtain ⟨v_3, ev_3, hf⟩ := ob hf
  refine g_get X I gfX12_31 (gI_in ev_3) dX12_init_10 ?_
  refine lv_aload_n hx hb dX12_init_13 rfl (lv_at hl 1 rfl) ?_
  obtain ⟨v_4, ev_4, hf⟩ := ob hf
  refine g_get X I gfX12_34 (gI_in ev_4) dX12_init_14 ?_
  obtain ⟨σ_6, ev_5, hf⟩ := ob hf
  refine cm_I (σ' := σ_6) (rs := []) (rest := []) (As := [.int v_1, .int v_2, .int v_3, .int v_4]) X I (mX12_init_2 hX ev_5) lvX12_40 hdX12_40 ⟨Nat.le_trans (Nat.le_of_ble_eq_true rfl) hR.1, Nat.le_trans (Nat.le_of_ble_eq_true rfl) hR.2⟩ rfl hl.1 rfl (Nat.le_of_ble_eq_true rfl) rfl dX12_init_17 (fun H locs cells slots I => ?_)
  refine lv_aload_n hx hb dX12_init_20 rfl (lv_at hl 0 rfl) ?_
  refine lv_aload_n hx hb dX12_init_21 rfl (lv_at hl 1 rfl) ?_
  obtain ⟨v_7, ev_7, hf⟩ := ob hf
  refine g_get X I gfX12_37 (gI_in ev_7) dX12_init_22 ?_
  obtain ⟨σ_8, eσ_8, hf⟩ := ob hf
  refine g_put X I pfX12_37 rfl rfl eσ_8 dX12_init_25 (fun H locs I => ?_)
  refine lv_aload_n hx hb dX12_init_28 rfl (lv_at hl 0 rfl) ?_
  refine lv_aload_n hx hb dX12_init_29 rfl (lv_at hl 1 rfl) ?_
  obtain ⟨v_9, ev_9, hf⟩ := ob hf
  refine g_get X I gfX12_43 (gI_in ev_9) dX12_init_30 ?_
  obtain ⟨σ_10, eσ_10, hf⟩ := ob hf
  refine g_put X I pfX12_43 rfl rfl eσ_10 dX12_init_33 (fun H locs I => ?_)
  refine lv_aload_n hx hb dX12_init_36 rfl (lv_at hl 0 rfl) ?_
  refine lv_aload_n hx hb dX12_init_37 rfl (lv_at hl 1 rfl) ?_
  obtain ⟨v_11, ev_11, hf⟩ := ob hf
  refine g_get X I gfX12_9 (gI_in ev_11) dX12_init_38 ?_
  obtain ⟨σ_12, eσ_12, hf⟩ := ob hf
  refine g_put X I pfX12_9 rfl rfl eσ_12 dX12_init_41 (fun H locs I => ?_)
  refine lv_aload_n hx hb dX12_init_44 rfl (lv_at hl 0 rfl) ?_
  obtain ⟨v_13, ev_13, hf⟩ := ob hf
  refine g_get X I gfX12_18 (gR_in ev_13) dX12_init_45 ?_
  refine lv_aload_n hx hb dX12_init_48 rfl (lv_at hl 1 rfl) ?_
  obtain ⟨v_14, ev_14, hf⟩ := ob hf
  refine g_get X I gfX12_18 (gR_in ev_14) dX12_init_49 ?_
  obtain ⟨a_15, ea_15, hga_15⟩ := ob hf
  have hla_15 := hl
  have Ia_15 := I
  subst ea_15
  have hf := hga_15
  have hl := hla_15
  have I := Ia_15
  obtain ⟨a_16, ea_16, hga_16⟩ := ob hf
  have hla_16 := hl
  have Ia_16 := I
  subst ea_16
  have hf := hga_16
  have hl := hla_16
  have I := Ia_16
  obtain ⟨u_17, eu_17, hf⟩ := ob hf
  obtain ⟨⟨v_18, σ_19⟩, ev_18, hf⟩ := ob hf
  refine cg_F (vw := (RJ2, TJ2, 3)) (ci := 21) (r := (some (.int v_18))) (σ' := σ_19) (rs := [.int v_18]) (rest := []) (As := [.ref a_15]) hX X I eu_17 rfl (mJ2_addAll hX ev_18) lvX12_46_J2 hdX12_46_J2 ⟨Nat.le_trans (Nat.le_of_ble_eq_true rfl) hR.1, Nat.le_trans (Nat.le_of_ble_eq_true rfl) hR.2⟩ rfl hl.1 rfl (Nat.le_of_ble_eq_true rfl) rfl dX12_init_52 (fun H locs cells slots I => ?_)
  refine lv_pop hx hb dX12_init_57 rfl ?_
  refine lv_aload_n hx hb dX12_init_58 rfl (lv_at hl 0 rfl) ?_
  obtain ⟨v_20, ev_20, hf⟩ := ob hf
  refine g_get X I gfX12_22 (gR_in ev_20) dX12_init_59 ?_
  refine lv_aload_n hx hb dX12_init_62 rfl (lv_at hl 1 rfl) ?_
  obtain ⟨v_21, ev_21, hf⟩ := ob hf
  refine g_get X I gfX12_22 (gR_in ev_21) dX12_init_63 ?_
  obtain ⟨a_22, ea_22, hga_22⟩ := ob hf
  have hla_22 := hl
  have Ia_22 := I
  subst ea_22
  have hf := hga_22
  have hl := hla_22
  have I := Ia_22
  obtain ⟨a_23, ea_23, hga_23⟩ := ob hf
  have hla_23 := hl
  have Ia_23 := I
  subst ea_23
  have hf := hga_23
  have hl := hla_23
  have I := Ia_23
  obtain ⟨u_24, eu_24, hf⟩ := ob hf
  obtain ⟨⟨v_25, σ_26⟩, ev_25, hf⟩ := ob hf
  refine cg_F (vw := (RJ2, TJ2, 3)) (ci := 21) (r := (some (.int v_25))) (σ' := σ_26) (rs := [.int v_25]) (rest := []) (As := [.ref a_22]) hX X I eu_24 rfl (mJ2_addAll hX ev_25) lvX12_46_J2 hdX12_46_J2 ⟨Nat.le_trans (Nat.le_of_ble_eq_true rfl) hR.1, Nat.le_trans (Nat.le_of_ble_eq_true rfl) hR.2⟩ rfl hl.1 rfl (Nat.le_of_ble_eq_true rfl) rfl dX12_init_66 (fun H locs cells slots I => ?_)
  refine lv_pop hx hb dX12_init_71 rfl ?_
  refine lv_aload_n hx hb dX12_init_72 rfl (lv_at hl 0 rfl) ?_
  refine lv_aload_n hx hb dX12_init_73 rfl (lv_at hl 1 rfl) ?_
  obtain ⟨v_27, ev_27, hf⟩ := ob hf
  refine g_get X I gfX12_52 (gI_in ev_27) dX12_init_74 ?_
  obtain ⟨σ_28, eσ_28, hf⟩ := ob hf
  refine g_put X I pfX12_52 rfl rfl eσ_28 dX12_init_77 (fun H locs I => ?_)
  refine lv_aload_n hx hb dX12_init_80 rfl (lv_at hl 0 rfl) ?_
  refine lv_aload_n hx hb dX12_init_81 rfl (lv_at hl 1 rfl) ?_
  obtain ⟨v_29, ev_29, hf⟩ := ob hf
  refine g_get X I gfX12_55 (gI_in ev_29) dX12_init_82 ?_
  obtain ⟨σ_30, eσ_30, hf⟩ := ob hf
  refine g_put X I pfX12_55 rfl rfl eσ_30 dX12_init_85 (fun H locs I => ?_)
  refine lv_aload_n hx hb dX12_init_88 rfl (lv_at hl 0 rfl) ?_
  refine lv_aload_n hx hb dX12_init_89 rfl (lv_at hl 1 rfl) ?_
  obtain ⟨v_31, ev_31, hf⟩ := ob hf
  refine g_get X I gfX12_58 (gI_in ev_31) dX12_init_90 ?_
  obtain ⟨σ_32, eσ_32, hf⟩ := ob hf
  refine g_put X I pfX12_58 rfl rfl eσ_32 dX12_init_93 (fun H locs I => ?_)
  refine lv_aload_n hx hb dX12_init_96 rfl (lv_at hl 0 rfl) ?_
  refine lv_aload_n hx hb dX12_init_97 rfl (lv_at hl 1 rfl) ?_
  obtain ⟨v_33, ev_33, hf⟩ := ob hf
  refine g_get X I gfX12_61 (gI_in ev_33) dX12_init_98 ?_
  obtain ⟨σ_34, eσ_34, hf⟩ := ob hf
  refine g_put X I pfX12_61 rfl rfl eσ_34 dX12_init_101 (fun H locs I => ?_)
  refine lv_aload_n hx hb dX12_init_104 rfl (lv_at hl 0 rfl) ?_
  refine lv_aload_n hx hb dX12_init_105 rfl (lv_at hl 1 rfl) ?_
  obtain ⟨v_35, ev_35, hf⟩ := ob hf
  refine g_get X I gfX12_64 (gI_in ev_35) dX12_init_106 ?_
  obtain ⟨σ_36, eσ_36, hf⟩ := ob hf
  refine g_put X I pfX12_64 rfl rfl eσ_36 dX12_init_109 (fun H locs I => ?_)
  refine lv_aload_n hx hb dX12_init_112 rfl (lv_at hl 0 rfl) ?_
  refine lv_aload_n hx hb dX12_init_113 rfl (lv_at hl 1 rfl) ?_
  obtain ⟨v_37, ev_37, hf⟩ := ob hf
  refine g_get X I gfX12_67 (gI_in ev_37) dX12_init_114 ?_
  obtain ⟨σ_38, eσ_38, hf⟩ := ob hf
  refine g_put X I pfX12_67 rfl rfl eσ_38 dX12_init_117 (fun H locs I => ?_)
  cases os hf
  exact r_vret X I dX12_init_120
theorem mX12_init {E : EV} {l : Launch} {σ : St} {x0 : Nat} {x1 : Nat} {res : St} (hX : XK E) (hf : fX12_init E.2.2.2.1 σ x0 x1 = some res) : CM E l yX12_init (ws_ yX12_init cX12_init 2 none) 5 132 [.ref x0, .ref x1] σ none res := by
  refine CM.of hX.1 (by decide) rfl rfl (Nat.le_of_ble_eq_true rfl) ?_
  intro p e s m below meth c X I ls hl
  exact wX12_init_0 hX ⟨Nat.le_refl _, Nat.le_refl _⟩ X _ _ _ _ _ _ _ _ I hl hf
/-! SharedTaxis$Taxi.copy()LSharedTaxis$Taxi; imp=True fuel=False kap=True rt=N thr=False -/
theorem noX12_10 : NO RX12 10 10 15 [.int 0, .int 0, .int 0, .int 0, .int 0, .int 0, .int 0, .null, .null, .int 0, .int 0, .int 0, .int 0, .int 0, .int 0] := ⟨RX12, TX12, tyX12, rfl, in_X12, tyX12_ok, by decide, q894, q895, q145⟩
theorem lvX12_70 : GoodIn lw_all (ws_ yX12_init cX12_init 2 none) ∧ Cond.initialized yX12_init.cls ∈ lw_all ∧ Cond.methodLink RX12 70 yX12_init ∈ lw_all ∧ Cond.instanceMethod yX12_init ∈ lw_all ∧ yX12_init.name = "<init>" := ⟨lw_meth q898, q145, q896, q897, rfl⟩
theorem hdX12_70 : yX12_init.cls ≠ "java/lang/invoke/MethodHandle" ∧ yX12_init.cls ≠ "java/lang/invoke/VarHandle" ∧ (parseMethodDescriptor yX12_init.desc).map (fun d => d.parameters.length) = some 1 := by decide +kernel
def fX12_copy (κ : Nat → Nat) (σ : St) (x0 : Nat) : Option (Nat × St) := (nH σ 15 (.inr (10, [.int 0, .int 0, .int 0, .int 0, .int 0, .int 0, .int 0, .null, .null, .int 0, .int 0, .int 0, .int 0, .int 0, .int 0]))).bind fun (q_1a, q_1s) => (fX12_init κ q_1s q_1a x0).bind fun σ_3 : St => some ((q_1a), σ_3)
theorem wX12_copy_0 {E : EV} {l : Launch} {p : Program} {e : Env} {s : State} {m : MethodId} {args : Array Value} {below : List Frame} {meth : Method} {c : Code} {R : Room} {res : (Nat × St)} (hX : XK E) (hR : 6 ≤ R.frames ∧ 153 ≤ R.locals) (X : MX E p s m args meth c cX12_copy 1 (some (.object "SharedTaxis$Taxi")) RX12 "copy") : ∀ (x0 : Nat) (σ : St) (H : Heap) (locs : List Loc) (cells slots : Nat) (ls : Array Slot), WI E R s σ H locs cells slots → lv_has ls 1 [(0, .ref x0)] → fX12_copy E.2.2.2.1 σ x0 = some res → W p l e R s m args below meth c H locs cells slots (MQ below (Qd E R.cells R.slots (some (.ref res.1)) res.2) args s R.cells R.slots (fr E)) (F0 m 0 ls []) := by
  intro x0 σ H locs cells slots ls I hl hf
  obtain ⟨⟨hx, hb, hml, hown, hts⟩, -⟩ := id X
  unfold fX12_copy at hf
  obtain ⟨⟨q_1a, q_1s⟩, eq_1, hf⟩ := ob hf
  refine g_new X I noX12_10 eq_1 dX12_copy_0 (fun H locs cells slots I => ?_)
  refine lv_dup hx hb dX12_copy_3 rfl ?_
  refine lv_aload_n hx hb dX12_copy_4 rfl (lv_at hl 0 rfl) ?_
  obtain ⟨σ_3, ev_2, hf⟩ := ob hf
  refine cm_I (σ' := σ_3) (rs := [.ref q_1a]) (rest := [.ref q_1a]) (As := [.ref x0]) X I (mX12_init hX ev_2) lvX12_70 hdX12_70 ⟨Nat.le_trans (Nat.le_of_ble_eq_true rfl) hR.1, Nat.le_trans (Nat.le_of_ble_eq_true rfl) hR.2⟩ rfl hl.1 rfl (Nat.le_of_ble_eq_true rfl) rfl dX12_copy_5 (fun H locs cells slots I => ?_)
  cases os hf
  exact r_aret X I (Or.inl ⟨_, rfl⟩) (Or.inr ⟨_, rfl⟩) dX12_copy_8
theorem mX12_copy {E : EV} {l : Launch} {σ : St} {x0 : Nat} {res : (Nat × St)} (hX : XK E) (hf : fX12_copy E.2.2.2.1 σ x0 = some res) : CM E l yX12_copy (ws_ yX12_copy cX12_copy 1 (some (.object "SharedTaxis$Taxi"))) 6 153 [.ref x0] σ (some (.ref res.1)) res.2 := by
  refine CM.of hX.1 (by decide) rfl rfl (Nat.le_of_ble_eq_true rfl) ?_
  intro p e s m below meth c X I ls hl
  exact wX12_copy_0 hX ⟨Nat.le_refl _, Nat.le_refl _⟩ X _ _ _ _ _ _ _ I hl hf
/-! SharedTaxis$Ride.<init>(LSharedTaxis$Ride;)V imp=True fuel=False kap=False rt=None thr=False -/
theorem gfX16_21 : ∀ q ∈ ([(14, 0)] : List (Nat × Nat)), GF RX16 21 q := List.forall_mem_cons.mpr ⟨⟨RX16, TX16, 15, _, rfl, in_X16, by decide, q1105, Or.inl rfl⟩, fun _ h => by cases h⟩
theorem gfX16_24 : ∀ q ∈ ([(14, 1)] : List (Nat × Nat)), GF RX16 24 q := List.forall_mem_cons.mpr ⟨⟨RX16, TX16, 15, _, rfl, in_X16, by decide, q1107, Or.inl rfl⟩, fun _ h => by cases h⟩
theorem gfX16_27 : ∀ q ∈ ([(14, 2)] : List (Nat × Nat)), GF RX16 27 q := List.forall_mem_cons.mpr ⟨⟨RX16, TX16, 15, _, rfl, in_X16, by decide, q1111, Or.inl rfl⟩, fun _ h => by cases h⟩
theorem gfX16_30 : ∀ q ∈ ([(14, 3)] : List (Nat × Nat)), GF RX16 30 q := List.forall_mem_cons.mpr ⟨⟨RX16, TX16, 15, _, rfl, in_X16, by decide, q1115, Or.inl rfl⟩, fun _ h => by cases h⟩
theorem gfX16_33 : ∀ q ∈ ([(14, 4)] : List (Nat × Nat)), GF RX16 33 q := List.forall_mem_cons.mpr ⟨⟨RX16, TX16, 15, _, rfl, in_X16, by decide, q1119, Or.inl rfl⟩, fun _ h => by cases h⟩
theorem gfX16_36 : ∀ q ∈ ([(14, 5)] : List (Nat × Nat)), GF RX16 36 q := List.forall_mem_cons.mpr ⟨⟨RX16, TX16, 15, _, rfl, in_X16, by decide, q1122, Or.inl rfl⟩, fun _ h => by cases h⟩
theorem lvX16_45 : GoodIn lw_all (ws_ yX16_init_2 cX16_init_2 9 none) ∧ Cond.initialized yX16_init_2.cls ∈ lw_all ∧ Cond.methodLink RX16 45 yX16_init_2 ∈ lw_all ∧ Cond.instanceMethod yX16_init_2 ∈ lw_all ∧ yX16_init_2.name = "<init>" := ⟨lw_meth q1103, q153, q1101, q1102, rfl⟩
theorem hdX16_45 : yX16_init_2.cls ≠ "java/lang/invoke/MethodHandle" ∧ yX16_init_2.cls ≠ "java/lang/invoke/VarHandle" ∧ (parseMethodDescriptor yX16_init_2.desc).map (fun d => d.parameters.length) = some 8 := by decide +kernel
theorem gfX16_48 : ∀ q ∈ ([(14, 8)] : List (Nat × Nat)), GF RX16 48 q := List.forall_mem_cons.mpr ⟨⟨RX16, TX16, 15, _, rfl, in_X16, by decide, q1129, Or.inl rfl⟩, fun _ h => by cases h⟩
theorem pfX16_48 : ∀ q ∈ ([(14, 8)] : List (Nat × Nat)), PF RX16 48 .int q := List.forall_mem_cons.mpr ⟨⟨RX16, TX16, 15, _, tyX16, rfl, in_X16, by decide, q1129, Or.inl rfl, tyX16_ok, nmX16, rfl, rfl⟩, fun _ h => by cases h⟩
theorem gfX16_9 : ∀ q ∈ ([(14, 9)] : List (Nat × Nat)), GF RX16 9 q := List.forall_mem_cons.mpr ⟨⟨RX16, TX16, 15, _, rfl, in_X16, by decide, q1133, Or.inl rfl⟩, fun _ h => by cases h⟩
theorem gfX16_15 : ∀ q ∈ ([(14, 10)] : List (Nat × Nat)), GF RX16 15 q := List.forall_mem_cons.mpr ⟨⟨RX16, TX16, 15, _, rfl, in_X16, by decide, q1135, Or.inl rfl⟩, fun _ h => by cases h⟩
theorem gfX16_18 : ∀ q ∈ ([(14, 11)] : List (Nat × Nat)), GF RX16 18 q := List.forall_mem_cons.mpr ⟨⟨RX16, TX16, 15, _, rfl, in_X16, by decide, q1139, Or.inl rfl⟩, fun _ h => by cases h⟩
theorem gfX16_51 : ∀ q ∈ ([(14, 12)] : List (Nat × Nat)), GF RX16 51 q := List.forall_mem_cons.mpr ⟨⟨RX16, TX16, 15, _, rfl, in_X16, by decide, q1143, Or.inl rfl⟩, fun _ h => by cases h⟩
theorem pfX16_51 : ∀ q ∈ ([(14, 12)] : List (Nat × Nat)), PF RX16 51 .int q := List.forall_mem_cons.mpr ⟨⟨RX16, TX16, 15, _, tyX16, rfl, in_X16, by decide, q1143, Or.inl rfl, tyX16_ok, nmX16, rfl, rfl⟩, fun _ h => by cases h⟩
theorem gfX16_54 : ∀ q ∈ ([(14, 13)] : List (Nat × Nat)), GF RX16 54 q := List.forall_mem_cons.mpr ⟨⟨RX16, TX16, 15, _, rfl, in_X16, by decide, q1145, Or.inl rfl⟩, fun _ h => by cases h⟩
theorem pfX16_54 : ∀ q ∈ ([(14, 13)] : List (Nat × Nat)), PF RX16 54 .boolean q := List.forall_mem_cons.mpr ⟨⟨RX16, TX16, 15, _, tyX16, rfl, in_X16, by decide, q1145, Or.inl rfl, tyX16_ok, nmX16, rfl, rfl⟩, fun _ h => by cases h⟩
theorem gfX16_58 : ∀ q ∈ ([(14, 14)] : List (Nat × Nat)), GF RX16 58 q := List.forall_mem_cons.mpr ⟨⟨RX16, TX16, 15, _, rfl, in_X16, by decide, q1149, Or.inl rfl⟩, fun _ h => by cases h⟩
theorem pfX16_58 : ∀ q ∈ ([(14, 14)] : List (Nat × Nat)), PF RX16 58 (.object "SharedTaxis$Offer") q := List.forall_mem_cons.mpr ⟨⟨RX16, TX16, 15, _, tyX16, rfl, in_X16, by decide, q1149, Or.inl rfl, tyX16_ok, nmX16, rfl, rfl⟩, fun _ h => by cases h⟩
def fX16_init (σ : St) (x0 : Nat) (x1 : Nat) : Option St := (gI σ x1 [(14, 0)]).bind fun v_1 : Int32 => (gI σ x1 [(14, 1)]).bind fun v_2 : Int32 => (gI σ x1 [(14, 2)]).bind fun v_3 : Int32 => (gI σ x1 [(14, 3)]).bind fun v_4 : Int32 => (gI σ x1 [(14, 4)]).bind fun v_5 : Int32 => (gI σ x1 [(14, 5)]).bind fun v_6 : Int32 => (gI σ x1 [(14, 6)]).bind fun v_7 : Int32 => (gI σ x1 [(14, 7)]).bind fun v_8 : Int32 => (fX16_init_2 σ x0 v_1 v_2 v_3 v_4 v_5 v_6 v_7 v_8).bind fun σ_10 : St => (gI σ_10 x1 [(14, 8)]).bind fun v_11 : Int32 => (pV σ_10 x0 [(14, 8)] (.int v_11)).bind fun σ_12 : St => (gI σ_12 x1 [(14, 9)]).bind fun v_13 : Int32 => (pV σ_12 x0 [(14, 9)] (.int v_13)).bind fun σ_14 : St => (gI σ_14 x1 [(14, 10)]).bind fun v_15 : Int32 => (pV σ_14 x0 [(14, 10)] (.int v_15)).bind fun σ_16 : St => (gI σ_16 x1 [(14, 11)]).bind fun v_17 : Int32 => (pV σ_16 x0 [(14, 11)] (.int v_17)).bind fun σ_18 : St => (gI σ_18 x1 [(14, 12)]).bind fun v_19 : Int32 => (pV σ_18 x0 [(14, 12)] (.int v_19)).bind fun σ_20 : St => (gI σ_20 x1 [(14, 13)]).bind fun v_21 : Int32 => if ¬ (v_21 = 0 ∨ v_21 = 1) then none else (pV σ_20 x0 [(14, 13)] (.int v_21)).bind fun σ_22 : St => (gR σ_22 x1 [(14, 14)]).bind fun v_23 : Option Nat => (pV σ_22 x0 [(14, 14)] (va_rf v_23)).bind fun σ_24 : St => some σ_24
theorem wX16_init_0 {E : EV} {l : Launch} {p : Program} {e : Env} {s : State} {m : MethodId} {args : Array Value} {below : List Frame} {meth : Method} {c : Code} {R : Room} {res : St} (hX : XK E) (hR : 2 ≤ R.frames ∧ 48 ≤ R.locals) (X : MX E p s m args meth c cX16_init 2 none RX16 "<init>") : ∀ (x0 : Nat) (x1 : Nat) (σ : St) (H : Heap) (locs : List Loc) (cells slots : Nat) (ls : Array Slot), WI E R s σ H locs cells slots → lv_has ls 2 [(0, .ref x0), (1, .ref x1)] → fX16_init σ x0 x1 = some res → W p l e R s m args below meth c H locs cells slots (MQ below (Qd E R.cells R.slots none res) args s R.cells R.slots (fr E)) (F0 m 0 ls []) := by
  intro x0 x1 σ H locs cells slots ls I hl hf
  obtain ⟨⟨hx, hb, hml, hown, hts⟩, -⟩ := id X
  unfold fX16_init at hf
  refine lv_aload_n hx hb dX16_init_0 rfl (lv_at hl 0 rfl) ?_
  refine lv_aload_n hx hb dX16_init_1 rfl (lv_at hl 1 rfl) ?_
  obtain ⟨v_1, ev_1, hf⟩ := ob hf
  refine g_get X I gfX16_21 (gI_in ev_1) dX16_init_2 ?_
  refine lv_aload_n hx hb dX16_init_5 rfl (lv_at hl 1 rfl) ?_
  obtain ⟨v_2, ev_2, hf⟩ := ob hf
  refine g_get X I gfX16_24 (gI_in ev_2) dX16_init_6 ?_
  refine lv_aload_n hx hb dX16_init_9 rfl (lv_at hl 1 rfl) ?_
  obtain ⟨v_3, ev_3, hf⟩ := ob hf
  refine g_get X I gfX16_27 (gI_in ev_3) dX16_init_10 ?_
  refine lv_aload_n hx hb dX16_init_13 rfl (lv_at hl 1 rfl) ?_
  obtain ⟨v_4, ev_4, hf⟩ := ob hf
  refine g_get X I gfX16_30 (gI_in ev_4) dX16_init_14 ?_
  refine lv_aload_n hx hb dX16_init_17 rfl (lv_at hl 1 rfl) ?_
  obtain ⟨v_5, ev_5, hf⟩ := ob hf
  refine g_get X I gfX16_33 (gI_in ev_5) dX16_init_18 ?_
  refine lv_aload_n hx hb dX16_init_21 rfl (lv_at hl 1 rfl) ?_
  obtain ⟨v_6, ev_6, hf⟩ := ob hf
  refine g_get X I gfX16_36 (gI_in ev_6) dX16_init_22 ?_
  refine lv_aload_n hx hb dX16_init_25 rfl (lv_at hl 1 rfl) ?_
  obtain ⟨v_7, ev_7, hf⟩ := ob hf
  refine g_get X I gfX16_39 (gI_in ev_7) dX16_init_26 ?_
  refine lv_aload_n hx hb dX16_init_29 rfl (lv_at hl 1 rfl) ?_
  obtain ⟨v_8, ev_8, hf⟩ := ob hf
  refine g_get X I gfX16_42 (gI_in ev_8) dX16_init_30 ?_
  obtain ⟨σ_10, ev_9, hf⟩ := ob hf
  refine cm_I (σ' := σ_10) (rs := []) (rest := []) (As := [.int v_1, .int v_2, .int v_3, .int v_4, .int v_5, .int v_6, .int v_7, .int v_8]) X I (mX16_init_2 hX ev_9) lvX16_45 hdX16_45 ⟨Nat.le_trans (Nat.le_of_ble_eq_true rfl) hR.1, Nat.le_trans (Nat.le_of_ble_eq_true rfl) hR.2⟩ rfl hl.1 rfl (Nat.le_of_ble_eq_true rfl) rfl dX16_init_33 (fun H locs cells slots I => ?_)
  refine lv_aload_n hx hb dX16_init_36 rfl (lv_at hl 0 rfl) ?_
  refine lv_aload_n hx hb dX16_init_37 rfl (lv_at hl 1 rfl) ?_
  obtain ⟨v_11, ev_11, hf⟩ := ob hf
  refine g_get X I gfX16_48 (gI_in ev_11) dX16_init_38 ?_
  obtain ⟨σ_12, eσ_12, hf⟩ := ob hf
  refine g_put X I pfX16_48 rfl rfl eσ_12 dX16_init_41 (fun H locs I => ?_)
  refine lv_aload_n hx hb dX16_init_44 rfl (lv_at hl 0 rfl) ?_
  refine lv_aload_n hx hb dX16_init_45 rfl (lv_at hl 1 rfl) ?_
  obtain ⟨v_13, ev_13, hf⟩ := ob hf
  refine g_get X I gfX16_9 (gI_in ev_13) dX16_init_46 ?_
  obtain ⟨σ_14, eσ_14, hf⟩ := ob hf
  refine g_put X I pfX16_9 rfl rfl eσ_14 dX16_init_49 (fun H locs I => ?_)
  refine lv_aload_n hx hb dX16_init_52 rfl (lv_at hl 0 rfl) ?_
  refine lv_aload_n hx hb dX16_init_53 rfl (lv_at hl 1 rfl) ?_
  obtain ⟨v_15, ev_15, hf⟩ := ob hf
  refine g_get X I gfX16_15 (gI_in ev_15) dX16_init_54 ?_
  obtain ⟨σ_16, eσ_16, hf⟩ := ob hf
  refine g_put X I pfX16_15 rfl rfl eσ_16 dX16_init_57 (fun H locs I => ?_)
  refine lv_aload_n hx hb dX16_init_60 rfl (lv_at hl 0 rfl) ?_
  refine lv_aload_n hx hb dX16_init_61 rfl (lv_at hl 1 rfl) ?_
  obtain ⟨v_17, ev_17, hf⟩ := ob hf
  refine g_get X I gfX16_18 (gI_in ev_17) dX16_init_62 ?_
  obtain ⟨σ_18, eσ_18, hf⟩ := ob hf
  refine g_put X I pfX16_18 rfl rfl eσ_18 dX16_init_65 (fun H locs I => ?_)
  refine lv_aload_n hx hb dX16_init_68 rfl (lv_at hl 0 rfl) ?_
  refine lv_aload_n hx hb dX16_init_69 rfl (lv_at hl 1 rfl) ?_
  obtain ⟨v_19, ev_19, hf⟩ := ob hf
  refine g_get X I gfX16_51 (gI_in ev_19) dX16_init_70 ?_
  obtain ⟨σ_20, eσ_20, hf⟩ := ob hf
  refine g_put X I pfX16_51 rfl rfl eσ_20 dX16_init_73 (fun H locs I => ?_)
  refine lv_aload_n hx hb dX16_init_76 rfl (lv_at hl 0 rfl) ?_
  refine lv_aload_n hx hb dX16_init_77 rfl (lv_at hl 1 rfl) ?_
  obtain ⟨v_21, ev_21, hf⟩ := ob hf
  refine g_get X I gfX16_54 (gI_in ev_21) dX16_init_78 ?_
  by_cases d_81 : ¬ (v_21 = 0 ∨ v_21 = 1)
  · exact nomatch (ip d_81 hf)
  have hf := im d_81 hf
  have c_81 := Decidable.not_not.mp d_81
  obtain ⟨σ_22, eσ_22, hf⟩ := ob hf
  refine g_put X I pfX16_54 (z_nar c_81) (z_fit c_81) eσ_22 dX16_init_81 (fun H locs I => ?_)
  refine lv_aload_n hx hb dX16_init_84 rfl (lv_at hl 0 rfl) ?_
  refine lv_aload_n hx hb dX16_init_85 rfl (lv_at hl 1 rfl) ?_
  obtain ⟨v_23, ev_23, hf⟩ := ob hf
  refine g_get X I gfX16_58 (gR_in ev_23) dX16_init_86 ?_
  obtain ⟨σ_24, eσ_24, hf⟩ := ob hf
  refine g_put X I pfX16_58 (rf_nar _ _) (rf_fit _ _) eσ_24 dX16_init_89 (fun H locs I => ?_)
  cases os hf
  exact r_vret X I dX16_init_92
theorem mX16_init {E : EV} {l : Launch} {σ : St} {x0 : Nat} {x1 : Nat} {res : St} (hX : XK E) (hf : fX16_init σ x0 x1 = some res) : CM E l yX16_init (ws_ yX16_init cX16_init 2 none) 2 48 [.ref x0, .ref x1] σ none res := by
  refine CM.of hX.1 (by decide) rfl rfl (Nat.le_of_ble_eq_true rfl) ?_
  intro p e s m below meth c X I ls hl
  exact wX16_init_0 hX ⟨Nat.le_refl _, Nat.le_refl _⟩ X _ _ _ _ _ _ _ _ I hl hf
/-! SharedTaxis$Ride.copy()LSharedTaxis$Ride; imp=True fuel=False kap=False rt=N thr=False -/
theorem noX16_10 : NO RX16 10 14 15 [.int 0, .int 0, .int 0, .int 0, .int 0, .int 0, .int 0, .int 0, .int 0, .int 0, .int 0, .int 0, .int 0, .int 0, .null] := ⟨RX16, TX16, tyX16, rfl, in_X16, tyX16_ok, by decide, q1096, q1097, q153⟩
theorem lvX16_62 : GoodIn lw_all (ws_ yX16_init cX16_init 2 none) ∧ Cond.initialized yX16_init.cls ∈ lw_all ∧ Cond.methodLink RX16 62 yX16_init ∈ lw_all ∧ Cond.instanceMethod yX16_init ∈ lw_all ∧ yX16_init.name = "<init>" := ⟨lw_meth q1100, q153, q1098, q1099, rfl⟩
theorem hdX16_62 : yX16_init.cls ≠ "java/lang/invoke/MethodHandle" ∧ yX16_init.cls ≠ "java/lang/invoke/VarHandle" ∧ (parseMethodDescriptor yX16_init.desc).map (fun d => d.parameters.length) = some 1 := by decide +kernel
def fX16_copy (σ : St) (x0 : Nat) : Option (Nat × St) := (nH σ 15 (.inr (14, [.int 0, .int 0, .int 0, .int 0, .int 0, .int 0, .int 0, .int 0, .int 0, .int 0, .int 0, .int 0, .int 0, .int 0, .null]))).bind fun (q_1a, q_1s) => (fX16_init q_1s q_1a x0).bind fun σ_3 : St => some ((q_1a), σ_3)
theorem wX16_copy_0 {E : EV} {l : Launch} {p : Program} {e : Env} {s : State} {m : MethodId} {args : Array Value} {below : List Frame} {meth : Method} {c : Code} {R : Room} {res : (Nat × St)} (hX : XK E) (hR : 3 ≤ R.frames ∧ 69 ≤ R.locals) (X : MX E p s m args meth c cX16_copy 1 (some (.object "SharedTaxis$Ride")) RX16 "copy") : ∀ (x0 : Nat) (σ : St) (H : Heap) (locs : List Loc) (cells slots : Nat) (ls : Array Slot), WI E R s σ H locs cells slots → lv_has ls 1 [(0, .ref x0)] → fX16_copy σ x0 = some res → W p l e R s m args below meth c H locs cells slots (MQ below (Qd E R.cells R.slots (some (.ref res.1)) res.2) args s R.cells R.slots (fr E)) (F0 m 0 ls []) := by
  intro x0 σ H locs cells slots ls I hl hf
  obtain ⟨⟨hx, hb, hml, hown, hts⟩, -⟩ := id X
  unfold fX16_copy at hf
  obtain ⟨⟨q_1a, q_1s⟩, eq_1, hf⟩ := ob hf
  refine g_new X I noX16_10 eq_1 dX16_copy_0 (fun H locs cells slots I => ?_)
  refine lv_dup hx hb dX16_copy_3 rfl ?_
  refine lv_aload_n hx hb dX16_copy_4 rfl (lv_at hl 0 rfl) ?_
  obtain ⟨σ_3, ev_2, hf⟩ := ob hf
  refine cm_I (σ' := σ_3) (rs := [.ref q_1a]) (rest := [.ref q_1a]) (As := [.ref x0]) X I (mX16_init hX ev_2) lvX16_62 hdX16_62 ⟨Nat.le_trans (Nat.le_of_ble_eq_true rfl) hR.1, Nat.le_trans (Nat.le_of_ble_eq_true rfl) hR.2⟩ rfl hl.1 rfl (Nat.le_of_ble_eq_true rfl) rfl dX16_copy_5 (fun H locs cells slots I => ?_)
  cases os hf
  exact r_aret X I (Or.inl ⟨_, rfl⟩) (Or.inr ⟨_, rfl⟩) dX16_copy_8
theorem mX16_copy {E : EV} {l : Launch} {σ : St} {x0 : Nat} {res : (Nat × St)} (hX : XK E) (hf : fX16_copy σ x0 = some res) : CM E l yX16_copy (ws_ yX16_copy cX16_copy 1 (some (.object "SharedTaxis$Ride"))) 3 69 [.ref x0] σ (some (.ref res.1)) res.2 := by
  refine CM.of hX.1 (by decide) rfl rfl (Nat.le_of_ble_eq_true rfl) ?_
  intro p e s m below meth c X I ls hl
  exact wX16_copy_0 hX ⟨Nat.le_refl _, Nat.le_refl _⟩ X _ _ _ _ _ _ _ I hl hf
/-! SharedTaxis$State.<init>(LSharedTaxis$State;)V imp=True fuel=True kap=True rt=None thr=False -/
theorem lvX2_70 : GoodIn lw_all (wsV RX2 70 RX16 yX16_copy (ws_ yX16_copy cX16_copy 1 (some (.object "SharedTaxis$Ride")))) := lw_V q1092 q1093 q1094 q153 q1095
theorem hdX2_70 : yX16_copy.cls = RX16 ∧ yX16_copy.cls ≠ "java/lang/invoke/MethodHandle" ∧ yX16_copy.cls ≠ "java/lang/invoke/VarHandle" ∧ (parseMethodDescriptor yX16_copy.desc).map (fun d => d.parameters.length) = some 0 := by decide +kernel
theorem lvX2_64_J2 : GoodIn lw_all (va_wsF RX2 64 RJ2 ⟨"java/util/List", "add", "(Ljava/lang/Object;)Z"⟩ yJ2_add (ws_ yJ2_add cJ2_add 2 (some .boolean))) ∧ (RJ2, ⟨"java/util/List", "add", "(Ljava/lang/Object;)Z"⟩, yJ2_add) ∈ FWL := ⟨lw_good (List.forall_mem_cons.mpr ⟨q1075, List.forall_mem_cons.mpr ⟨q1078, List.forall_mem_cons.mpr ⟨q1080, List.forall_mem_cons.mpr ⟨q118, fun w h => (lw_meth q1082 w h).1⟩⟩⟩⟩), List.mem_of_getElem? (i := 7) rfl⟩
theorem hdX2_64_J2 : (⟨"java/util/List", "add", "(Ljava/lang/Object;)Z"⟩ : MethodName).cls ≠ "java/lang/invoke/MethodHandle" ∧ (⟨"java/util/List", "add", "(Ljava/lang/Object;)Z"⟩ : MethodName).cls ≠ "java/lang/invoke/VarHandle" ∧ (parseMethodDescriptor (⟨"java/util/List", "add", "(Ljava/lang/Object;)Z"⟩ : MethodName).desc).map (fun d => d.parameters.length) = some 1 := by decide +kernel
theorem gfX2_18 : ∀ q ∈ ([(1, 5)] : List (Nat × Nat)), GF RX2 18 q := List.forall_mem_cons.mpr ⟨⟨RX2, TX2, 7, _, rfl, in_X2, by decide, q253, Or.inl rfl⟩, fun _ h => by cases h⟩
theorem lvX2_60 : GoodIn lw_all (wsV RX2 60 RX12 yX12_copy (ws_ yX12_copy cX12_copy 1 (some (.object "SharedTaxis$Taxi")))) := lw_V q890 q891 q892 q145 q893
theorem hdX2_60 : yX12_copy.cls = RX12 ∧ yX12_copy.cls ≠ "java/lang/invoke/MethodHandle" ∧ yX12_copy.cls ≠ "java/lang/invoke/VarHandle" ∧ (parseMethodDescriptor yX12_copy.desc).map (fun d => d.parameters.length) = some 0 := by decide +kernel
theorem gfX2_25 : ∀ q ∈ ([(1, 0)] : List (Nat × Nat)), GF RX2 25 q := List.forall_mem_cons.mpr ⟨⟨RX2, TX2, 7, _, rfl, in_X2, by decide, q232, Or.inl rfl⟩, fun _ h => by cases h⟩
theorem lvX2_29 : GoodIn lw_all (ws_ yX2_init cX2_init 2 none) ∧ Cond.initialized yX2_init.cls ∈ lw_all ∧ Cond.methodLink RX2 29 yX2_init ∈ lw_all ∧ Cond.instanceMethod yX2_init ∈ lw_all ∧ yX2_init.name = "<init>" := ⟨lw_meth q201, q114, q883, q200, rfl⟩
theorem hdX2_29 : yX2_init.cls ≠ "java/lang/invoke/MethodHandle" ∧ yX2_init.cls ≠ "java/lang/invoke/VarHandle" ∧ (parseMethodDescriptor yX2_init.desc).map (fun d => d.parameters.length) = some 1 := by decide +kernel
theorem gfX2_38 : ∀ q ∈ ([(1, 2)] : List (Nat × Nat)), GF RX2 38 q := List.forall_mem_cons.mpr ⟨⟨RX2, TX2, 7, _, rfl, in_X2, by decide, q241, Or.inl rfl⟩, fun _ h => by cases h⟩
theorem pfX2_38 : ∀ q ∈ ([(1, 2)] : List (Nat × Nat)), PF RX2 38 .int q := List.forall_mem_cons.mpr ⟨⟨RX2, TX2, 7, _, tyX2, rfl, in_X2, by decide, q241, Or.inl rfl, tyX2_ok, nmX2, rfl, rfl⟩, fun _ h => by cases h⟩
theorem pfX2_42 : ∀ q ∈ ([(1, 3)] : List (Nat × Nat)), PF RX2 42 .int q := List.forall_mem_cons.mpr ⟨⟨RX2, TX2, 7, _, tyX2, rfl, in_X2, by decide, q245, Or.inl rfl, tyX2_ok, nmX2, rfl, rfl⟩, fun _ h => by cases h⟩
theorem gfX2_45 : ∀ q ∈ ([(1, 4)] : List (Nat × Nat)), GF RX2 45 q := List.forall_mem_cons.mpr ⟨⟨RX2, TX2, 7, _, rfl, in_X2, by decide, q249, Or.inl rfl⟩, fun _ h => by cases h⟩
theorem pfX2_45 : ∀ q ∈ ([(1, 4)] : List (Nat × Nat)), PF RX2 45 .int q := List.forall_mem_cons.mpr ⟨⟨RX2, TX2, 7, _, tyX2, rfl, in_X2, by decide, q249, Or.inl rfl, tyX2_ok, nmX2, rfl, rfl⟩, fun _ h => by cases h⟩
def fX2_init_2_96 (N : Nat) (κ : Nat → Nat) : Nat → Nat → Nat → Int32 → St → Option St
  | 0, _, _, _, _ => none
  | n + 1, x0, x1, x2, σ => (gR σ x1 [(1, 6)]).bind fun v_1 : Option Nat => (v_1).bind fun a_2 : Nat => (isC σ a_2 21).bind fun u_3 : Unit => (fJ2_size σ a_2).bind fun v_4 : Int32 => if v_4 ≤ x2 then some σ else (gR σ x0 [(1, 6)]).bind fun v_6 : Option Nat => (gR σ x1 [(1, 6)]).bind fun v_7 : Option Nat => (v_7).bind fun a_8 : Nat => (isC σ a_8 21).bind fun u_9 : Unit => (fJ2_get σ a_8 x2).bind fun v_10 : Option Nat => (v_10).bind fun a_12 : Nat => (isC σ a_12 14).bind fun u_13 : Unit => (isC σ a_12 14).bind fun u_14 : Unit => (fX16_copy σ a_12).bind fun (v_15, σ_16) => (v_6).bind fun a_17 : Nat => (isC σ_16 a_17 21).bind fun u_18 : Unit => (fJ2_add κ σ_16 a_17 v_15).bind fun (v_19, σ_20) => lt (x2 + 1) fun x2_21 : Int32 => fX2_init_2_96 N κ n x0 x1 x2_21 σ_20
def fX2_init_2_49 (N : Nat) (κ : Nat → Nat) : Nat → Nat → Nat → Int32 → St → Option St
  | 0, _, _, _, _ => none
  | n + 1, x0, x1, x2, σ => (gR σ x1 [(1, 5)]).bind fun v_22 : Option Nat => (v_22).bind fun a_23 : Nat => (isC σ a_23 21).bind fun u_24 : Unit => (fJ2_size σ a_23).bind fun v_25 : Int32 => if v_25 ≤ x2 then fX2_init_2_96 N κ N x0 x1 (0 : Int32) σ else (gR σ x0 [(1, 5)]).bind fun v_27 : Option Nat => (gR σ x1 [(1, 5)]).bind fun v_28 : Option Nat => (v_28).bind fun a_29 : Nat => (isC σ a_29 21).bind fun u_30 : Unit => (fJ2_get σ a_29 x2).bind fun v_31 : Option Nat => (v_31).bind fun a_33 : Nat => (isC σ a_33 10).bind fun u_34 : Unit => (isC σ a_33 10).bind fun u_35 : Unit => (fX12_copy κ σ a_33).bind fun (v_36, σ_37) => (v_27).bind fun a_38 : Nat => (isC σ_37 a_38 21).bind fun u_39 : Unit => (fJ2_add κ σ_37 a_38 v_36).bind fun (v_40, σ_41) => lt (x2 + 1) fun x2_42 : Int32 => fX2_init_2_49 N κ n x0 x1 x2_42 σ_41
def fX2_init_2 (N : Nat) (κ : Nat → Nat) (σ : St) (x0 : Nat) (x1 : Nat) : Option St := (gR σ x1 [(1, 0)]).bind fun v_43 : Option Nat => (v_43).bind fun a_44 : Nat => (fX2_init κ σ x0 a_44).bind fun σ_46 : St => (gR σ_46 x1 [(1, 1)]).bind fun v_47 : Option Nat => (gR σ_46 x0 [(1, 1)]).bind fun v_48 : Option Nat => (v_47).bind fun a_49 : Nat => (v_48).bind fun a_50 : Nat => (cpI σ_46 a_49 0 (0 : Int32) a_50 (0 : Int32) (10 : Int32)).bind fun σ_51 : St => (gI σ_51 x1 [(1, 2)]).bind fun v_52 : Int32 => (pV σ_51 x0 [(1, 2)] (.int v_52)).bind fun σ_53 : St => (gI σ_53 x1 [(1, 3)]).bind fun v_54 : Int32 => (pV σ_53 x0 [(1, 3)] (.int v_54)).bind fun σ_55 : St => (gI σ_55 x1 [(1, 4)]).bind fun v_56 : Int32 => (pV σ_55 x0 [(1, 4)] (.int v_56)).bind fun σ_57 : St => fX2_init_2_49 N κ N x0 x1 (0 : Int32) σ_57
theorem wX2_init_2_96 {E : EV} {l : Launch} {p : Program} {e : Env} {s : State} {m : MethodId} {args : Array Value} {below : List Frame} {meth : Method} {c : Code} {R : Room} {res : St} (hX : XK E) (hR : 7 ≤ R.frames ∧ 173 ≤ R.locals) (X : MX E p s m args meth c cX2_init_2 3 none RX2 "<init>") (N : Nat) : ∀ (n : Nat) (x0 : Nat) (x1 : Nat) (x2 : Int32) (σ : St) (H : Heap) (locs : List Loc) (cells slots : Nat) (ls : Array Slot), WI E R s σ H locs cells slots → lv_has ls 3 [(0, .ref x0), (1, .ref x1), (2, .int x2)] → fX2_init_2_96 N E.2.2.2.1 n x0 x1 x2 σ = some res → W p l e R s m args below meth c H locs cells slots (MQ below (Qd E R.cells R.slots none res) args s R.cells R.slots (fr E)) (F0 m 96 ls []) := by
  intro n
  induction n with
  | zero => intro x0 x1 x2 σ H locs cells slots ls I hl hf; exact nomatch (show none = some res from hf)
  | succ n ih =>
    intro x0 x1 x2 σ H locs cells slots ls I hl hf
    obtain ⟨⟨hx, hb, hml, hown, hts⟩, -⟩ := id X
    rw [fX2_init_2_96.eq_2] at hf
    refine lv_iload_n hx hb dX2_init_2_96 rfl (lv_at hl 2 rfl) ?_
    refine lv_aload_n hx hb dX2_init_2_97 rfl (lv_at hl 1 rfl) ?_
    obtain ⟨v_1, ev_1, hf⟩ := ob hf
    refine g_get X I gfX2_22 (gR_in ev_1) dX2_init_2_98 ?_
    obtain ⟨a_2, ea_2, hga_2⟩ := ob hf
    have hla_2 := hl
    have Ia_2 := I
    subst ea_2
    have hf := hga_2
    have hl := hla_2
    have I := Ia_2
    obtain ⟨u_3, eu_3, hf⟩ := ob hf
    obtain ⟨v_4, ev_4, hf⟩ := ob hf
    refine cg_F (vw := (RJ2, TJ2, 3)) (ci := 21) (r := (some (.int v_4))) (σ' := σ) (rs := [.int v_4, .int x2]) (rest := [.int x2]) (As := []) hX X I eu_3 rfl (mJ2_size hX ev_4) lvX2_48_J2 hdX2_48_J2 ⟨Nat.le_trans (Nat.le_of_ble_eq_true rfl) hR.1, Nat.le_trans (Nat.le_of_ble_eq_true rfl) hR.2⟩ rfl hl.1 rfl (Nat.le_of_ble_eq_true rfl) rfl dX2_init_2_101 (fun H locs cells slots I => ?_)
    refine lv_icmp_ge (tgt := 141) hx hb dX2_init_2_106 (by decide) (fun c_106 => ?_) (fun c_106 => ?_)
    · have hf := ip c_106 hf
      cases os hf
      exact r_vret X I dX2_init_2_141
    · have hf := im c_106 hf
      refine lv_aload_n hx hb dX2_init_2_109 rfl (lv_at hl 0 rfl) ?_
      obtain ⟨v_6, ev_6, hf⟩ := ob hf
      refine g_get X I gfX2_22 (gR_in ev_6) dX2_init_2_110 ?_
      refine lv_aload_n hx hb dX2_init_2_113 rfl (lv_at hl 1 rfl) ?_
      obtain ⟨v_7, ev_7, hf⟩ := ob hf
      refine g_get X I gfX2_22 (gR_in ev_7) dX2_init_2_114 ?_
      refine lv_iload_n hx hb dX2_init_2_117 rfl (lv_at hl 2 rfl) ?_
      obtain ⟨a_8, ea_8, hga_8⟩ := ob hf
      have hla_8 := hl
      have Ia_8 := I
      subst ea_8
      have hf := hga_8
      have hl := hla_8
      have I := Ia_8
      obtain ⟨u_9, eu_9, hf⟩ := ob hf
      obtain ⟨v_10, ev_10, hf⟩ := ob hf
      refine cg_F (vw := (RJ2, TJ2, 3)) (ci := 21) (r := (some (va_rf v_10))) (σ' := σ) (rs := [va_rf v_10, va_rf v_6]) (rest := [va_rf v_6]) (As := [.int x2]) hX X I eu_9 rfl (mJ2_get hX ev_10) lvX2_54_J2 hdX2_54_J2 ⟨Nat.le_trans (Nat.le_of_ble_eq_true rfl) hR.1, Nat.le_trans (Nat.le_of_ble_eq_true rfl) hR.2⟩ rfl hl.1 rfl (by rcases v_6 with _ | _ <;> exact (Nat.le_of_ble_eq_true rfl)) rfl dX2_init_2_118 (fun H locs cells slots I => ?_)
      obtain ⟨a_12, ea_12, hga_12⟩ := ob hf
      have hla_12 := hl
      have Ia_12 := I
      subst ea_12
      have hf := hga_12
      have hl := hla_12
      have I := Ia_12
      obtain ⟨u_13, eu_13, hf⟩ := ob hf
      refine g_cast (vw := (RX16, TX16, 15)) X I rfl q1091 eu_13 dX2_init_2_123 ?_
      obtain ⟨u_14, eu_14, hf⟩ := ob hf
      obtain ⟨⟨v_15, σ_16⟩, ev_15, hf⟩ := ob hf
      refine cg_V (vw := (RX16, TX16, 15)) (ci := 14) (r := (some (.ref v_15))) (σ' := σ_16) (rs := [.ref v_15, va_rf v_6]) (rest := [va_rf v_6]) (As := []) X I eu_14 rfl (mX16_copy hX ev_15) lvX2_70 hdX2_70 ⟨Nat.le_trans (Nat.le_of_ble_eq_true rfl) hR.1, Nat.le_trans (Nat.le_of_ble_eq_true rfl) hR.2⟩ rfl hl.1 rfl (by rcases v_6 with _ | _ <;> exact (Nat.le_of_ble_eq_true rfl)) rfl dX2_init_2_126 (fun H locs cells slots I => ?_)
      obtain ⟨a_17, ea_17, hga_17⟩ := ob hf
      have hla_17 := hl
      have Ia_17 := I
      subst ea_17
      have hf := hga_17
      have hl := hla_17
      have I := Ia_17
      obtain ⟨u_18, eu_18, hf⟩ := ob hf
      obtain ⟨⟨v_19, σ_20⟩, ev_19, hf⟩ := ob hf
      refine cg_F (vw := (RJ2, TJ2, 3)) (ci := 21) (r := (some (.int v_19))) (σ' := σ_20) (rs := [.int v_19]) (rest := []) (As := [.ref v_15]) hX X I eu_18 rfl (mJ2_add hX ev_19) lvX2_64_J2 hdX2_64_J2 ⟨Nat.le_trans (Nat.le_of_ble_eq_true rfl) hR.1, Nat.le_trans (Nat.le_of_ble_eq_true rfl) hR.2⟩ rfl hl.1 rfl (Nat.le_of_ble_eq_true rfl) rfl dX2_init_2_129 (fun H locs cells slots I => ?_)
      refine lv_pop hx hb dX2_init_2_134 rfl ?_
      obtain ⟨x2_21, ex2_21, hf⟩ := ol hf
      refine lv_iinc (v := x2_21) (lv' := [(2, .int x2_21), (0, .ref x0), (1, .ref x1)]) hx hb dX2_init_2_135 hl (k := 2) rfl ex2_21 (by decide) rfl (fun ls hl => ?_)
      refine lv_goto (tgt := 96) hx hb dX2_init_2_138 (by decide) ?_
      exact ih x0 x1 x2_21 σ_20 _ _ _ _ _ I (lv_sub hl [1, 2, 0] rfl) hf
theorem wX2_init_2_49 {E : EV} {l : Launch} {p : Program} {e : Env} {s : State} {m : MethodId} {args : Array Value} {below : List Frame} {meth : Method} {c : Code} {R : Room} {res : St} (hX : XK E) (hR : 7 ≤ R.frames ∧ 173 ≤ R.locals) (X : MX E p s m args meth c cX2_init_2 3 none RX2 "<init>") (N : Nat) : ∀ (n : Nat) (x0 : Nat) (x1 : Nat) (x2 : Int32) (σ : St) (H : Heap) (locs : List Loc) (cells slots : Nat) (ls : Array Slot), WI E R s σ H locs cells slots → lv_has ls 3 [(0, .ref x0), (1, .ref x1), (2, .int x2)] → fX2_init_2_49 N E.2.2.2.1 n x0 x1 x2 σ = some res → W p l e R s m args below meth c H locs cells slots (MQ below (Qd E R.cells R.slots none res) args s R.cells R.slots (fr E)) (F0 m 49 ls []) := by
  intro n
  induction n with
  | zero => intro x0 x1 x2 σ H locs cells slots ls I hl hf; exact nomatch (show none = some res from hf)
  | succ n ih =>
    intro x0 x1 x2 σ H locs cells slots ls I hl hf
    obtain ⟨⟨hx, hb, hml, hown, hts⟩, -⟩ := id X
    rw [fX2_init_2_49.eq_2] at hf
    refine lv_iload_n hx hb dX2_init_2_49 rfl (lv_at hl 2 rfl) ?_
    refine lv_aload_n hx hb dX2_init_2_50 rfl (lv_at hl 1 rfl) ?_
    obtain ⟨v_22, ev_22, hf⟩ := ob hf
    refine g_get X I gfX2_18 (gR_in ev_22) dX2_init_2_51 ?_
    obtain ⟨a_23, ea_23, hga_23⟩ := ob hf
    have hla_23 := hl
    have Ia_23 := I
    subst ea_23
    have hf := hga_23
    have hl := hla_23
    have I := Ia_23
    obtain ⟨u_24, eu_24, hf⟩ := ob hf
    obtain ⟨v_25, ev_25, hf⟩ := ob hf
    refine cg_F (vw := (RJ2, TJ2, 3)) (ci := 21) (r := (some (.int v_25))) (σ' := σ) (rs := [.int v_25, .int x2]) (rest := [.int x2]) (As := []) hX X I eu_24 rfl (mJ2_size hX ev_25) lvX2_48_J2 hdX2_48_J2 ⟨Nat.le_trans (Nat.le_of_ble_eq_true rfl) hR.1, Nat.le_trans (Nat.le_of_ble_eq_true rfl) hR.2⟩ rfl hl.1 rfl (Nat.le_of_ble_eq_true rfl) rfl dX2_init_2_54 (fun H locs cells slots I => ?_)
    refine lv_icmp_ge (tgt := 94) hx hb dX2_init_2_59 (by decide) (fun c_59 => ?_) (fun c_59 => ?_)
    · have hf := ip c_59 hf
      refine lv_iconst (v := 0) hx hb dX2_init_2_94 (by decide) ?_
      refine lv_istore_n (lv' := [(2, .int (0 : Int32)), (0, .ref x0), (1, .ref x1)]) hx hb dX2_init_2_95 rfl hl (by decide) rfl (fun ls hl => ?_)
      exact wX2_init_2_96 hX hR X N N x0 x1 (0 : Int32) σ _ _ _ _ _ I (lv_sub hl [1, 2, 0] rfl) hf
    · have hf := im c_59 hf
      refine lv_aload_n hx hb dX2_init_2_62 rfl (lv_at hl 0 rfl) ?_
      obtain ⟨v_27, ev_27, hf⟩ := ob hf
      refine g_get X I gfX2_18 (gR_in ev_27) dX2_init_2_63 ?_
      refine lv_aload_n hx hb dX2_init_2_66 rfl (lv_at hl 1 rfl) ?_
      obtain ⟨v_28, ev_28, hf⟩ := ob hf
      refine g_get X I gfX2_18 (gR_in ev_28) dX2_init_2_67 ?_
      refine lv_iload_n hx hb dX2_init_2_70 rfl (lv_at hl 2 rfl) ?_
      obtain ⟨a_29, ea_29, hga_29⟩ := ob hf
      have hla_29 := hl
      have Ia_29 := I
      subst ea_29
      have hf := hga_29
      have hl := hla_29
      have I := Ia_29
      obtain ⟨u_30, eu_30, hf⟩ := ob hf
      obtain ⟨v_31, ev_31, hf⟩ := ob hf
      refine cg_F (vw := (RJ2, TJ2, 3)) (ci := 21) (r := (some (va_rf v_31))) (σ' := σ) (rs := [va_rf v_31, va_rf v_27]) (rest := [va_rf v_27]) (As := [.int x2]) hX X I eu_30 rfl (mJ2_get hX ev_31) lvX2_54_J2 hdX2_54_J2 ⟨Nat.le_trans (Nat.le_of_ble_eq_true rfl) hR.1, Nat.le_trans (Nat.le_of_ble_eq_true rfl) hR.2⟩ rfl hl.1 rfl (by rcases v_27 with _ | _ <;> exact (Nat.le_of_ble_eq_true rfl)) rfl dX2_init_2_71 (fun H locs cells slots I => ?_)
      obtain ⟨a_33, ea_33, hga_33⟩ := ob hf
      have hla_33 := hl
      have Ia_33 := I
      subst ea_33
      have hf := hga_33
      have hl := hla_33
      have I := Ia_33
      obtain ⟨u_34, eu_34, hf⟩ := ob hf
      refine g_cast (vw := (RX12, TX12, 15)) X I rfl q889 eu_34 dX2_init_2_76 ?_
      obtain ⟨u_35, eu_35, hf⟩ := ob hf
      obtain ⟨⟨v_36, σ_37⟩, ev_36, hf⟩ := ob hf
      refine cg_V (vw := (RX12, TX12, 15)) (ci := 10) (r := (some (.ref v_36))) (σ' := σ_37) (rs := [.ref v_36, va_rf v_27]) (rest := [va_rf v_27]) (As := []) X I eu_35 rfl (mX12_copy hX ev_36) lvX2_60 hdX2_60 ⟨Nat.le_trans (Nat.le_of_ble_eq_true rfl) hR.1, Nat.le_trans (Nat.le_of_ble_eq_true rfl) hR.2⟩ rfl hl.1 rfl (by rcases v_27 with _ | _ <;> exact (Nat.le_of_ble_eq_true rfl)) rfl dX2_init_2_79 (fun H locs cells slots I => ?_)
      obtain ⟨a_38, ea_38, hga_38⟩ := ob hf
      have hla_38 := hl
      have Ia_38 := I
      subst ea_38
      have hf := hga_38
      have hl := hla_38
      have I := Ia_38
      obtain ⟨u_39, eu_39, hf⟩ := ob hf
      obtain ⟨⟨v_40, σ_41⟩, ev_40, hf⟩ := ob hf
      refine cg_F (vw := (RJ2, TJ2, 3)) (ci := 21) (r := (some (.int v_40))) (σ' := σ_41) (rs := [.int v_40]) (rest := []) (As := [.ref v_36]) hX X I eu_39 rfl (mJ2_add hX ev_40) lvX2_64_J2 hdX2_64_J2 ⟨Nat.le_trans (Nat.le_of_ble_eq_true rfl) hR.1, Nat.le_trans (Nat.le_of_ble_eq_true rfl) hR.2⟩ rfl hl.1 rfl (Nat.le_of_ble_eq_true rfl) rfl dX2_init_2_82 (fun H locs cells slots I => ?_)
      refine lv_pop hx hb dX2_init_2_87 rfl ?_
      obtain ⟨x2_42, ex2_42, hf⟩ := ol hf
      refine lv_iinc (v := x2_42) (lv' := [(2, .int x2_42), (0, .ref x0), (1, .ref x1)]) hx hb dX2_init_2_88 hl (k := 2) rfl ex2_42 (by decide) rfl (fun ls hl => ?_)
      refine lv_goto (tgt := 49) hx hb dX2_init_2_91 (by decide) ?_
      exact ih x0 x1 x2_42 σ_41 _ _ _ _ _ I (lv_sub hl [1, 2, 0] rfl) hf
theorem wX2_init_2_0 {E : EV} {l : Launch} {p : Program} {e : Env} {s : State} {m : MethodId} {args : Array Value} {below : List Frame} {meth : Method} {c : Code} {R : Room} {res : St} (hX : XK E) (hR : 7 ≤ R.frames ∧ 173 ≤ R.locals) (X : MX E p s m args meth c cX2_init_2 3 none RX2 "<init>") (N : Nat) : ∀ (x0 : Nat) (x1 : Nat) (σ : St) (H : Heap) (locs : List Loc) (cells slots : Nat) (ls : Array Slot), WI E R s σ H locs cells slots → lv_has ls 3 [(0, .ref x0), (1, .ref x1)] → fX2_init_2 N E.2.2.2.1 σ x0 x1 = some res → W p l e R s m args below meth c H locs cells slots (MQ below (Qd E R.cells R.slots none res) args s R.cells R.slots (fr E)) (F0 m 0 ls []) := by
  intro x0 x1 σ H locs cells slots ls I hl hf
  obtain ⟨⟨hx, hb, hml, hown, hts⟩, -⟩ := id X
  unfold fX2_init_2 at hf
  refine lv_aload_n hx hb dX2_init_2_0 rfl (lv_at hl 0 rfl) ?_
  refine lv_aload_n hx hb dX2_init_2_1 rfl (lv_at hl 1 rfl) ?_
  obtain ⟨v_43, ev_43, hf⟩ := ob hf
  refine g_get X I gfX2_25 (gR_in ev_43) dX2_init_2_2 ?_
  obtain ⟨a_44, ea_44, hga_44⟩ := ob hf
  have hla_44 := hl
  have Ia_44 := I
  subst ea_44
  have hf := hga_44
  have hl := hla_44
  have I := Ia_44
  obtain ⟨σ_46, ev_45, hf⟩ := ob hf
  refine cm_I (σ' := σ_46) (rs := []) (rest := []) (As := [.ref a_44]) X I (mX2_init hX ev_45) lvX2_29 hdX2_29 ⟨Nat.le_trans (Nat.le_of_ble_eq_true rfl) hR.1, Nat.le_trans (Nat.le_of_ble_eq_true rfl) hR.2⟩ rfl hl.1 rfl (Nat.le_of_ble_eq_true rfl) rfl dX2_init_2_5 (fun H locs cells slots I => ?_)
  refine lv_aload_n hx hb dX2_init_2_8 rfl (lv_at hl 1 rfl) ?_
  obtain ⟨v_47, ev_47, hf⟩ := ob hf
  refine g_get X I gfX2_9 (gR_in ev_47) dX2_init_2_9 ?_
  refine lv_iconst (v := 0) hx hb dX2_init_2_12 (by decide) ?_
  refine lv_aload_n hx hb dX2_init_2_13 rfl (lv_at hl 0 rfl) ?_
  obtain ⟨v_48, ev_48, hf⟩ := ob hf
  refine g_get X I gfX2_9 (gR_in ev_48) dX2_init_2_14 ?_
  refine lv_iconst (v := 0) hx hb dX2_init_2_17 (by decide) ?_
  refine lv_bipush (v := 10) hx hb dX2_init_2_18 (by decide) ?_
  obtain ⟨a_49, ea_49, hga_49⟩ := ob hf
  have hla_49 := hl
  have Ia_49 := I
  subst ea_49
  have hf := hga_49
  have hl := hla_49
  have I := Ia_49
  obtain ⟨a_50, ea_50, hga_50⟩ := ob hf
  have hla_50 := hl
  have Ia_50 := I
  subst ea_50
  have hf := hga_50
  have hl := hla_50
  have I := Ia_50
  obtain ⟨σ_51, eσ_51, hf⟩ := ob hf
  refine g_copyI X I (by decide) q884 eσ_51 hl.1 ⟨Nat.le_trans (Nat.le_of_ble_eq_true rfl) hR.1, Nat.le_trans (Nat.le_of_ble_eq_true rfl) hR.2⟩ (Nat.le_of_ble_eq_true rfl) dX2_init_2_20 (fun H locs I => ?_)
  refine lv_aload_n hx hb dX2_init_2_23 rfl (lv_at hl 0 rfl) ?_
  refine lv_aload_n hx hb dX2_init_2_24 rfl (lv_at hl 1 rfl) ?_
  obtain ⟨v_52, ev_52, hf⟩ := ob hf
  refine g_get X I gfX2_38 (gI_in ev_52) dX2_init_2_25 ?_
  obtain ⟨σ_53, eσ_53, hf⟩ := ob hf
  refine g_put X I pfX2_38 rfl rfl eσ_53 dX2_init_2_28 (fun H locs I => ?_)
  refine lv_aload_n hx hb dX2_init_2_31 rfl (lv_at hl 0 rfl) ?_
  refine lv_aload_n hx hb dX2_init_2_32 rfl (lv_at hl 1 rfl) ?_
  obtain ⟨v_54, ev_54, hf⟩ := ob hf
  refine g_get X I gfX2_42 (gI_in ev_54) dX2_init_2_33 ?_
  obtain ⟨σ_55, eσ_55, hf⟩ := ob hf
  refine g_put X I pfX2_42 rfl rfl eσ_55 dX2_init_2_36 (fun H locs I => ?_)
  refine lv_aload_n hx hb dX2_init_2_39 rfl (lv_at hl 0 rfl) ?_
  refine lv_aload_n hx hb dX2_init_2_40 rfl (lv_at hl 1 rfl) ?_
  obtain ⟨v_56, ev_56, hf⟩ := ob hf
  refine g_get X I gfX2_45 (gI_in ev_56) dX2_init_2_41 ?_
  obtain ⟨σ_57, eσ_57, hf⟩ := ob hf
  refine g_put X I pfX2_45 rfl rfl eσ_57 dX2_init_2_44 (fun H locs I => ?_)
  refine lv_iconst (v := 0) hx hb dX2_init_2_47 (by decide) ?_
  refine lv_istore_n (lv' := [(2, .int (0 : Int32)), (0, .ref x0), (1, .ref x1)]) hx hb dX2_init_2_48 rfl hl (by decide) rfl (fun ls hl => ?_)
  exact wX2_init_2_49 hX hR X N N x0 x1 (0 : Int32) σ_57 _ _ _ _ _ I (lv_sub hl [1, 2, 0] rfl) hf
theorem mX2_init_2 {E : EV} {l : Launch} {N : Nat} {σ : St} {x0 : Nat} {x1 : Nat} {res : St} (hX : XK E) (hf : fX2_init_2 N E.2.2.2.1 σ x0 x1 = some res) : CM E l yX2_init_2 (ws_ yX2_init_2 cX2_init_2 3 none) 7 173 [.ref x0, .ref x1] σ none res := by
  refine CM.of hX.1 (by decide) rfl rfl (Nat.le_of_ble_eq_true rfl) ?_
  intro p e s m below meth c X I ls hl
  exact wX2_init_2_0 hX ⟨Nat.le_refl _, Nat.le_refl _⟩ X N _ _ _ _ _ _ _ _ I hl hf
/-! SharedTaxis$State.copy()LSharedTaxis$State; imp=True fuel=True kap=True rt=N thr=False -/
theorem noX2_10 : NO RX2 10 1 7 [.null, .null, .int 0, .int 0, .int 0, .null, .null] := ⟨RX2, TX2, tyX2, rfl, in_X2, tyX2_ok, by decide, q879, q173, q114⟩
theorem lvX2_73 : GoodIn lw_all (ws_ yX2_init_2 cX2_init_2 3 none) ∧ Cond.initialized yX2_init_2.cls ∈ lw_all ∧ Cond.methodLink RX2 73 yX2_init_2 ∈ lw_all ∧ Cond.instanceMethod yX2_init_2 ∈ lw_all ∧ yX2_init_2.name = "<init>" := ⟨lw_meth q882, q114, q880, q881, rfl⟩
theorem hdX2_73 : yX2_init_2.cls ≠ "java/lang/invoke/MethodHandle" ∧ yX2_init_2.cls ≠ "java/lang/invoke/VarHandle" ∧ (parseMethodDescriptor yX2_init_2.desc).map (fun d => d.parameters.length) = some 1 := by decide +kernel
def fX2_copy (N : Nat) (κ : Nat → Nat) (σ : St) (x0 : Nat) : Option (Nat × St) := (nH σ 7 (.inr (1, [.null, .null, .int 0, .int 0, .int 0, .null, .null]))).bind fun (q_1a, q_1s) => (fX2_init_2 N κ q_1s q_1a x0).bind fun σ_3 : St => some ((q_1a), σ_3)
theorem wX2_copy_0 {E : EV} {l : Launch} {p : Program} {e : Env} {s : State} {m : MethodId} {args : Array Value} {below : List Frame} {meth : Method} {c : Code} {R : Room} {res : (Nat × St)} (hX : XK E) (hR : 8 ≤ R.frames ∧ 195 ≤ R.locals) (X : MX E p s m args meth c cX2_copy 1 (some (.object "SharedTaxis$State")) RX2 "copy") (N : Nat) : ∀ (x0 : Nat) (σ : St) (H : Heap) (locs : List Loc) (cells slots : Nat) (ls : Array Slot), WI E R s σ H locs cells slots → lv_has ls 1 [(0, .ref x0)] → fX2_copy N E.2.2.2.1 σ x0 = some res → W p l e R s m args below meth c H locs cells slots (MQ below (Qd E R.cells R.slots (some (.ref res.1)) res.2) args s R.cells R.slots (fr E)) (F0 m 0 ls []) := by
  intro x0 σ H locs cells slots ls I hl hf
  obtain ⟨⟨hx, hb, hml, hown, hts⟩, -⟩ := id X
  unfold fX2_copy at hf
  obtain ⟨⟨q_1a, q_1s⟩, eq_1, hf⟩ := ob hf
  refine g_new X I noX2_10 eq_1 dX2_copy_0 (fun H locs cells slots I => ?_)
  refine lv_dup hx hb dX2_copy_3 rfl ?_
  refine lv_aload_n hx hb dX2_copy_4 rfl (lv_at hl 0 rfl) ?_
  obtain ⟨σ_3, ev_2, hf⟩ := ob hf
  refine cm_I (σ' := σ_3) (rs := [.ref q_1a]) (rest := [.ref q_1a]) (As := [.ref x0]) X I (mX2_init_2 hX ev_2) lvX2_73 hdX2_73 ⟨Nat.le_trans (Nat.le_of_ble_eq_true rfl) hR.1, Nat.le_trans (Nat.le_of_ble_eq_true rfl) hR.2⟩ rfl hl.1 rfl (Nat.le_of_ble_eq_true rfl) rfl dX2_copy_5 (fun H locs cells slots I => ?_)
  cases os hf
  exact r_aret X I (Or.inl ⟨_, rfl⟩) (Or.inr ⟨_, rfl⟩) dX2_copy_8
theorem mX2_copy {E : EV} {l : Launch} {N : Nat} {σ : St} {x0 : Nat} {res : (Nat × St)} (hX : XK E) (hf : fX2_copy N E.2.2.2.1 σ x0 = some res) : CM E l yX2_copy (ws_ yX2_copy cX2_copy 1 (some (.object "SharedTaxis$State"))) 8 195 [.ref x0] σ (some (.ref res.1)) res.2 := by
  refine CM.of hX.1 (by decide) rfl rfl (Nat.le_of_ble_eq_true rfl) ?_
  intro p e s m below meth c X I ls hl
  exact wX2_copy_0 hX ⟨Nat.le_refl _, Nat.le_refl _⟩ X N _ _ _ _ _ _ _ I hl hf
/-! java/util/ArrayDeque.newCapacity(II)I imp=True fuel=False kap=False rt=I thr=False -/
def fJ3_newCapacity (σ : St) (x0 : Nat) (x1 : Int32) (x2 : Int32) : Option (Int32 × St) := (gR σ x0 [(22, 0)]).bind fun v_1 : Option Nat => (v_1).bind fun a_2 : Nat => (aL σ a_2).bind fun v_3 : Int32 => lt (v_3 + x1) fun x4_4 : Int32 => if ((v_3 + x1) - (2147483639 : Int32)) ≤ 0 then if x1 ≤ x2 then if 0 ≤ ((v_3 + x2) - (2147483639 : Int32)) then some ((2147483639 : Int32), σ) else some ((v_3 + x2), σ) else some (x4_4, σ) else if 0 ≤ x4_4 then some ((2147483647 : Int32), σ) else none
theorem wJ3_newCapacity_0 {E : EV} {l : Launch} {p : Program} {e : Env} {s : State} {m : MethodId} {args : Array Value} {below : List Frame} {meth : Method} {c : Code} {R : Room} {res : (Int32 × St)} (hX : XK E) (hR : 0 ≤ R.frames ∧ 0 ≤ R.locals) (X : MX E p s m args meth c cJ3_newCapacity 5 (some .int) RJ3 "newCapacity") : ∀ (x0 : Nat) (x1 : Int32) (x2 : Int32) (σ : St) (H : Heap) (locs : List Loc) (cells slots : Nat) (ls : Array Slot), WI E R s σ H locs cells slots → lv_has ls 5 [(0, .ref x0), (1, .int x1), (2, .int x2)] → fJ3_newCapacity σ x0 x1 x2 = some res → W p l e R s m args below meth c H locs cells slots (MQ below (Qd E R.cells R.slots (some (.int res.1)) res.2) args s R.cells R.slots (fr E)) (F0 m 0 ls []) := by
  intro x0 x1 x2 σ H locs cells slots ls I hl hf
  obtain ⟨⟨hx, hb, hml, hown, hts⟩, -⟩ := id X
  unfold fJ3_newCapacity at hf
  refine lv_aload_n hx hb dJ3_newCapacity_0 rfl (lv_at hl 0 rfl) ?_
  obtain ⟨v_1, ev_1, hf⟩ := ob hf
  refine g_get X I gfJ3_3 (gR_in ev_1) dJ3_newCapacity_1 ?_
  obtain ⟨a_2, ea_2, hga_2⟩ := ob hf
  have hla_2 := hl
  have Ia_2 := I
  subst ea_2
  have hf := hga_2
  have hl := hla_2
  have I := Ia_2
  obtain ⟨v_3, ev_3, hf⟩ := ob hf
  refine g_alen X I ev_3 dJ3_newCapacity_4 ?_
  refine lv_istore_n (lv' := [(3, .int v_3), (0, .ref x0), (1, .int x1), (2, .int x2)]) hx hb dJ3_newCapacity_5 rfl hl (by decide) rfl (fun ls hl => ?_)
  refine lv_iload_n hx hb dJ3_newCapacity_6 rfl (lv_at hl 0 rfl) ?_
  refine lv_iload_n hx hb dJ3_newCapacity_7 rfl (lv_at hl 2 rfl) ?_
  refine lv_iadd hx hb dJ3_newCapacity_8 ?_
  refine lv_dup hx hb dJ3_newCapacity_9 rfl ?_
  obtain ⟨x4_4, ex4_4, hf⟩ := ol hf
  refine nm_i ex4_4 ?_
  refine lv_istore (lv' := [(4, .int x4_4), (3, .int v_3), (0, .ref x0), (1, .int x1), (2, .int x2)]) hx hb dJ3_newCapacity_10 hl (by decide) rfl (fun ls hl => ?_)
  refine lv_ldc (v := 2147483639) hx hb hown (hts _ q2076) dJ3_newCapacity_12 ?_
  refine lv_isub hx hb dJ3_newCapacity_14 ?_
  refine lv_if_le (tgt := 36) hx hb dJ3_newCapacity_15 (by decide) (fun c_15 => ?_) (fun c_15 => ?_)
  · have hf := ip c_15 hf
    refine lv_iload_n hx hb dJ3_newCapacity_36 rfl (lv_at hl 3 rfl) ?_
    refine lv_iload_n hx hb dJ3_newCapacity_37 rfl (lv_at hl 4 rfl) ?_
    refine lv_icmp_le (tgt := 44) hx hb dJ3_newCapacity_38 (by decide) (fun c_38 => ?_) (fun c_38 => ?_)
    · have hf := ip c_38 hf
      refine lv_iload_n hx hb dJ3_newCapacity_44 rfl (lv_at hl 1 rfl) ?_
      refine lv_iload_n hx hb dJ3_newCapacity_45 rfl (lv_at hl 4 rfl) ?_
      refine lv_iadd hx hb dJ3_newCapacity_46 ?_
      refine lv_ldc (v := 2147483639) hx hb hown (hts _ q2076) dJ3_newCapacity_47 ?_
      refine lv_isub hx hb dJ3_newCapacity_49 ?_
      refine lv_if_ge (tgt := 59) hx hb dJ3_newCapacity_50 (by decide) (fun c_50 => ?_) (fun c_50 => ?_)
      · have hf := ip c_50 hf
        refine lv_ldc (v := 2147483639) hx hb hown (hts _ q2076) dJ3_newCapacity_59 ?_
        cases os hf
        exact r_iret X I dJ3_newCapacity_61
      · have hf := im c_50 hf
        refine lv_iload_n hx hb dJ3_newCapacity_53 rfl (lv_at hl 1 rfl) ?_
        refine lv_iload_n hx hb dJ3_newCapacity_54 rfl (lv_at hl 4 rfl) ?_
        refine lv_iadd hx hb dJ3_newCapacity_55 ?_
        refine lv_goto (tgt := 61) hx hb dJ3_newCapacity_56 (by decide) ?_
        cases os hf
        exact r_iret X I dJ3_newCapacity_61
    · have hf := im c_38 hf
      refine lv_iload hx hb dJ3_newCapacity_41 (lv_at hl 0 rfl) ?_
      cases os hf
      exact r_iret X I dJ3_newCapacity_43
  · have hf := im c_15 hf
    refine lv_iload hx hb dJ3_newCapacity_18 (lv_at hl 0 rfl) ?_
    refine lv_if_ge (tgt := 33) hx hb dJ3_newCapacity_20 (by decide) (fun c_20 => ?_) (fun c_20 => ?_)
    · have hf := ip c_20 hf
      refine lv_ldc (v := 2147483647) hx hb hown (hts _ q2081) dJ3_newCapacity_33 ?_
      cases os hf
      exact r_iret X I dJ3_newCapacity_35
    · have hf := im c_20 hf
      exact nomatch hf
theorem mJ3_newCapacity {E : EV} {l : Launch} {σ : St} {x0 : Nat} {x1 : Int32} {x2 : Int32} {res : (Int32 × St)} (hX : XK E) (hf : fJ3_newCapacity σ x0 x1 x2 = some res) : CM E l yJ3_newCapacity (ws_ yJ3_newCapacity cJ3_newCapacity 5 (some .int)) 0 0 [.ref x0, .int x1, .int x2] σ (some (.int res.1)) res.2 := by
  refine CM.of hX.1 (by decide) rfl rfl (Nat.le_of_ble_eq_true rfl) ?_
  intro p e s m below meth c X I ls hl
  exact wJ3_newCapacity_0 hX ⟨Nat.le_refl _, Nat.le_refl _⟩ X _ _ _ _ _ _ _ _ _ I hl hf
/-! java/util/ArrayDeque.grow(I)V imp=True fuel=True kap=True rt=None thr=False -/
theorem lvJ3_14 : GoodIn lw_all (va_wsS RJ3 14 yJ14_copyOf_2 (ws_ yJ14_copyOf_2 cJ14_copyOf_2 2 (some (.array (.object "java/lang/Object"))))) := lw_S q2082 q1023 q133 q1024
theorem hdJ3_14 : yJ14_copyOf_2.cls ≠ "java/lang/invoke/MethodHandle" ∧ yJ14_copyOf_2.cls ≠ "java/lang/invoke/VarHandle" ∧ (parseMethodDescriptor yJ14_copyOf_2.desc).map (fun d => d.parameters.length) = some 2 := by decide +kernel
theorem pfJ3_3 : ∀ q ∈ ([(22, 0)] : List (Nat × Nat)), PF RJ3 3 (.array (.object "java/lang/Object")) q := List.forall_mem_cons.mpr ⟨⟨RJ3, TJ3, 3, _, tyJ3, rfl, in_J3, by decide, q286, Or.inl rfl, tyJ3_ok, nmJ3, rfl, rfl⟩, fun _ h => by cases h⟩
theorem lvJ3_10 : GoodIn lw_all (wsV RJ3 10 RJ3 yJ3_newCapacity (ws_ yJ3_newCapacity cJ3_newCapacity 5 (some .int))) := lw_V q2077 q2079 qs30 q119 q2080
theorem hdJ3_10 : yJ3_newCapacity.cls = RJ3 ∧ yJ3_newCapacity.cls ≠ "java/lang/invoke/MethodHandle" ∧ yJ3_newCapacity.cls ≠ "java/lang/invoke/VarHandle" ∧ (parseMethodDescriptor yJ3_newCapacity.desc).map (fun d => d.parameters.length) = some 2 := by decide +kernel
def fJ3_grow_145 (N : Nat) (κ : Nat → Nat) : Nat → Nat → Int32 → Int32 → St → Option St
  | 0, _, _, _, _ => none
  | n + 1, x5, x7, x8, σ => if x8 ≤ x7 then some σ else (sR σ x5 3 x7 none).bind fun σ_1 : St => lt (x7 + 1) fun x7_2 : Int32 => fJ3_grow_145 N κ n x5 x7_2 x8 σ_1
def fJ3_grow_96 (N : Nat) (κ : Nat → Nat) (x0 : Nat) (x2 : Int32) (x3 : Int32) (x5 : Nat) (σ : St) : Option St := lt (x3 - x2) fun x6_3 : Int32 => (gI σ x0 [(22, 1)]).bind fun v_4 : Int32 => (gI σ x0 [(22, 1)]).bind fun v_5 : Int32 => (gI σ x0 [(22, 1)]).bind fun v_6 : Int32 => (cpR σ x5 3 v_4 x5 (v_5 + x6_3) (x2 - v_6)).bind fun σ_7 : St => (gI σ_7 x0 [(22, 1)]).bind fun v_8 : Int32 => (gI σ_7 x0 [(22, 1)]).bind fun v_9 : Int32 => (pV σ_7 x0 [(22, 1)] (.int (v_9 + x6_3))).bind fun σ_10 : St => lt (v_9 + x6_3) fun x8_11 : Int32 => fJ3_grow_145 N κ N x5 v_8 x8_11 σ_10
def fJ3_grow_49 (N : Nat) (κ : Nat → Nat) (x0 : Nat) (x2 : Int32) (x3 : Int32) (σ : St) : Option St := (gR σ x0 [(22, 0)]).bind fun v_12 : Option Nat => (v_12).bind fun a_13 : Nat => (fJ14_copyOf_2 κ σ a_13 x3).bind fun (v_14, σ_15) => (pV σ_15 x0 [(22, 0)] (.ref v_14)).bind fun σ_16 : St => (gI σ_16 x0 [(22, 2)]).bind fun v_17 : Int32 => (gI σ_16 x0 [(22, 1)]).bind fun v_18 : Int32 => if v_17 < v_18 then fJ3_grow_96 N κ x0 x2 x3 v_14 σ_16 else (gI σ_16 x0 [(22, 2)]).bind fun v_19 : Int32 => (gI σ_16 x0 [(22, 1)]).bind fun v_20 : Int32 => if v_19 = v_20 then (gI σ_16 x0 [(22, 1)]).bind fun v_21 : Int32 => (aR σ_16 v_14 3 v_21).bind fun v_22 : Option Nat => oc v_22 (some σ_16) fun a_23 => fJ3_grow_96 N κ x0 x2 x3 v_14 σ_16 else some σ_16
def fJ3_grow_41 (N : Nat) (κ : Nat → Nat) (x0 : Nat) (x1 : Int32) (x2 : Int32) (x4 : Int32) (σ : St) : Option St := (isC σ x0 22).bind fun u_24 : Unit => (fJ3_newCapacity σ x0 x1 x4).bind fun (v_25, σ_26) => fJ3_grow_49 N κ x0 x2 v_25 σ_26
def fJ3_grow_21 (N : Nat) (κ : Nat → Nat) (x0 : Nat) (x1 : Int32) (x2 : Int32) (y0 : Int32) (σ : St) : Option St := if y0 < x1 then fJ3_grow_41 N κ x0 x1 x2 y0 σ else lt (x2 + y0) fun x3_27 : Int32 => if ((x2 + y0) - (2147483639 : Int32)) ≤ 0 then fJ3_grow_49 N κ x0 x2 x3_27 σ else fJ3_grow_41 N κ x0 x1 x2 y0 σ
def fJ3_grow (N : Nat) (κ : Nat → Nat) (σ : St) (x0 : Nat) (x1 : Int32) : Option St := (gR σ x0 [(22, 0)]).bind fun v_28 : Option Nat => (v_28).bind fun a_29 : Nat => (aL σ a_29).bind fun v_30 : Int32 => if (64 : Int32) ≤ v_30 then fJ3_grow_21 N κ x0 x1 v_30 (v_30 >>> ((1 : Int32) &&& 31)) σ else fJ3_grow_21 N κ x0 x1 v_30 (v_30 + (2 : Int32)) σ
theorem wJ3_grow_145 {E : EV} {l : Launch} {p : Program} {e : Env} {s : State} {m : MethodId} {args : Array Value} {below : List Frame} {meth : Method} {c : Code} {R : Room} {res : St} (hX : XK E) (hR : 3 ≤ R.frames ∧ 84 ≤ R.locals) (X : MX E p s m args meth c cJ3_grow 9 none RJ3 "grow") (N : Nat) : ∀ (n : Nat) (x5 : Nat) (x7 : Int32) (x8 : Int32) (σ : St) (H : Heap) (locs : List Loc) (cells slots : Nat) (ls : Array Slot), WI E R s σ H locs cells slots → lv_has ls 9 [(5, .ref x5), (7, .int x7), (8, .int x8)] → fJ3_grow_145 N E.2.2.2.1 n x5 x7 x8 σ = some res → W p l e R s m args below meth c H locs cells slots (MQ below (Qd E R.cells R.slots none res) args s R.cells R.slots (fr E)) (F0 m 145 ls []) := by
  intro n
  induction n with
  | zero => intro x5 x7 x8 σ H locs cells slots ls I hl hf; exact nomatch (show none = some res from hf)
  | succ n ih =>
    intro x5 x7 x8 σ H locs cells slots ls I hl hf
    obtain ⟨⟨hx, hb, hml, hown, hts⟩, -⟩ := id X
    rw [fJ3_grow_145.eq_2] at hf
    refine lv_iload hx hb dJ3_grow_145 (lv_at hl 1 rfl) ?_
    refine lv_iload hx hb dJ3_grow_147 (lv_at hl 2 rfl) ?_
    refine lv_icmp_ge (tgt := 164) hx hb dJ3_grow_149 (by decide) (fun c_149 => ?_) (fun c_149 => ?_)
    · have hf := ip c_149 hf
      cases os hf
      exact r_vret X I dJ3_grow_164
    · have hf := im c_149 hf
      refine lv_aload hx hb dJ3_grow_152 (lv_at hl 0 rfl) ?_
      refine lv_iload hx hb dJ3_grow_154 (lv_at hl 1 rfl) ?_
      refine lv_null hx hb dJ3_grow_156 ?_
      obtain ⟨σ_1, eσ_1, hf⟩ := ob hf
      refine g_aast (v := none) hX X I (by decide) eσ_1 dJ3_grow_157 (fun H locs I => ?_)
      obtain ⟨x7_2, ex7_2, hf⟩ := ol hf
      refine lv_iinc (v := x7_2) (lv' := [(7, .int x7_2), (5, .ref x5), (8, .int x8)]) hx hb dJ3_grow_158 hl (k := 1) rfl ex7_2 (by decide) rfl (fun ls hl => ?_)
      refine lv_goto (tgt := 145) hx hb dJ3_grow_161 (by decide) ?_
      exact ih x5 x7_2 x8 σ_1 _ _ _ _ _ I (lv_sub hl [1, 0, 2] rfl) hf
theorem wJ3_grow_96 {E : EV} {l : Launch} {p : Program} {e : Env} {s : State} {m : MethodId} {args : Array Value} {below : List Frame} {meth : Method} {c : Code} {R : Room} {res : St} (hX : XK E) (hR : 3 ≤ R.frames ∧ 84 ≤ R.locals) (X : MX E p s m args meth c cJ3_grow 9 none RJ3 "grow") (N : Nat) : ∀ (x0 : Nat) (x2 : Int32) (x3 : Int32) (x5 : Nat) (σ : St) (H : Heap) (locs : List Loc) (cells slots : Nat) (ls : Array Slot), WI E R s σ H locs cells slots → lv_has ls 9 [(0, .ref x0), (2, .int x2), (3, .int x3), (5, .ref x5)] → fJ3_grow_96 N E.2.2.2.1 x0 x2 x3 x5 σ = some res → W p l e R s m args below meth c H locs cells slots (MQ below (Qd E R.cells R.slots none res) args s R.cells R.slots (fr E)) (F0 m 96 ls []) := by
  intro x0 x2 x3 x5 σ H locs cells slots ls I hl hf
  obtain ⟨⟨hx, hb, hml, hown, hts⟩, -⟩ := id X
  unfold fJ3_grow_96 at hf
  refine lv_iload_n hx hb dJ3_grow_96 rfl (lv_at hl 2 rfl) ?_
  refine lv_iload_n hx hb dJ3_grow_97 rfl (lv_at hl 1 rfl) ?_
  refine lv_isub hx hb dJ3_grow_98 ?_
  obtain ⟨x6_3, ex6_3, hf⟩ := ol hf
  refine nm_i ex6_3 ?_
  refine lv_istore (lv' := [(6, .int x6_3), (0, .ref x0), (2, .int x2), (3, .int x3), (5, .ref x5)]) hx hb dJ3_grow_99 hl (by decide) rfl (fun ls hl => ?_)
  refine lv_aload hx hb dJ3_grow_101 (lv_at hl 4 rfl) ?_
  refine lv_aload_n hx hb dJ3_grow_103 rfl (lv_at hl 1 rfl) ?_
  obtain ⟨v_4, ev_4, hf⟩ := ob hf
  refine g_get X I gfJ3_24 (gI_in ev_4) dJ3_grow_104 ?_
  refine lv_aload hx hb dJ3_grow_107 (lv_at hl 4 rfl) ?_
  refine lv_aload_n hx hb dJ3_grow_109 rfl (lv_at hl 1 rfl) ?_
  obtain ⟨v_5, ev_5, hf⟩ := ob hf
  refine g_get X I gfJ3_24 (gI_in ev_5) dJ3_grow_110 ?_
  refine lv_iload hx hb dJ3_grow_113 (lv_at hl 0 rfl) ?_
  refine lv_iadd hx hb dJ3_grow_115 ?_
  refine lv_iload_n hx hb dJ3_grow_116 rfl (lv_at hl 2 rfl) ?_
  refine lv_aload_n hx hb dJ3_grow_117 rfl (lv_at hl 1 rfl) ?_
  obtain ⟨v_6, ev_6, hf⟩ := ob hf
  refine g_get X I gfJ3_24 (gI_in ev_6) dJ3_grow_118 ?_
  refine lv_isub hx hb dJ3_grow_121 ?_
  obtain ⟨σ_7, eσ_7, hf⟩ := ob hf
  refine g_copyR hX X I (by decide) q1015 eσ_7 hl.1 ⟨Nat.le_trans (Nat.le_of_ble_eq_true rfl) hR.1, Nat.le_trans (Nat.le_of_ble_eq_true rfl) hR.2⟩ (Nat.le_of_ble_eq_true rfl) dJ3_grow_122 (fun H locs I => ?_)
  refine lv_aload_n hx hb dJ3_grow_125 rfl (lv_at hl 1 rfl) ?_
  obtain ⟨v_8, ev_8, hf⟩ := ob hf
  refine g_get X I gfJ3_24 (gI_in ev_8) dJ3_grow_126 ?_
  refine lv_istore (lv' := [(7, .int v_8), (6, .int x6_3), (0, .ref x0), (2, .int x2), (3, .int x3), (5, .ref x5)]) hx hb dJ3_grow_129 hl (by decide) rfl (fun ls hl => ?_)
  refine lv_aload_n hx hb dJ3_grow_131 rfl (lv_at hl 2 rfl) ?_
  refine lv_dup hx hb dJ3_grow_132 rfl ?_
  obtain ⟨v_9, ev_9, hf⟩ := ob hf
  refine g_get X I gfJ3_24 (gI_in ev_9) dJ3_grow_133 ?_
  refine lv_iload hx hb dJ3_grow_136 (lv_at hl 1 rfl) ?_
  refine lv_iadd hx hb dJ3_grow_138 ?_
  refine lv_dup_x1 hx hb dJ3_grow_139 rfl rfl ?_
  obtain ⟨σ_10, eσ_10, hf⟩ := ob hf
  refine g_put X I pfJ3_24 rfl rfl eσ_10 dJ3_grow_140 (fun H locs I => ?_)
  obtain ⟨x8_11, ex8_11, hf⟩ := ol hf
  refine nm_i ex8_11 ?_
  refine lv_istore (lv' := [(8, .int x8_11), (7, .int v_8), (6, .int x6_3), (0, .ref x0), (2, .int x2), (3, .int x3), (5, .ref x5)]) hx hb dJ3_grow_143 hl (by decide) rfl (fun ls hl => ?_)
  exact wJ3_grow_145 hX hR X N N x5 v_8 x8_11 σ_10 _ _ _ _ _ I (lv_sub hl [6, 1, 0] rfl) hf
theorem wJ3_grow_49 {E : EV} {l : Launch} {p : Program} {e : Env} {s : State} {m : MethodId} {args : Array Value} {below : List Frame} {meth : Method} {c : Code} {R : Room} {res : St} (hX : XK E) (hR : 3 ≤ R.frames ∧ 84 ≤ R.locals) (X : MX E p s m args meth c cJ3_grow 9 none RJ3 "grow") (N : Nat) : ∀ (x0 : Nat) (x2 : Int32) (x3 : Int32) (σ : St) (H : Heap) (locs : List Loc) (cells slots : Nat) (ls : Array Slot), WI E R s σ H locs cells slots → lv_has ls 9 [(0, .ref x0), (2, .int x2), (3, .int x3)] → fJ3_grow_49 N E.2.2.2.1 x0 x2 x3 σ = some res → W p l e R s m args below meth c H locs cells slots (MQ below (Qd E R.cells R.slots none res) args s R.cells R.slots (fr E)) (F0 m 49 ls []) := by
  intro x0 x2 x3 σ H locs cells slots ls I hl hf
  obtain ⟨⟨hx, hb, hml, hown, hts⟩, -⟩ := id X
  unfold fJ3_grow_49 at hf
  refine lv_aload_n hx hb dJ3_grow_49 rfl (lv_at hl 0 rfl) ?_
  refine lv_aload_n hx hb dJ3_grow_50 rfl (lv_at hl 0 rfl) ?_
  obtain ⟨v_12, ev_12, hf⟩ := ob hf
  refine g_get X I gfJ3_3 (gR_in ev_12) dJ3_grow_51 ?_
  refine lv_iload_n hx hb dJ3_grow_54 rfl (lv_at hl 2 rfl) ?_
  obtain ⟨a_13, ea_13, hga_13⟩ := ob hf
  have hla_13 := hl
  have Ia_13 := I
  subst ea_13
  have hf := hga_13
  have hl := hla_13
  have I := Ia_13
  obtain ⟨⟨v_14, σ_15⟩, ev_14, hf⟩ := ob hf
  refine cg_S (r := (some (.ref v_14))) (σ' := σ_15) (rs := [.ref v_14, .ref x0]) (rest := [.ref x0]) (As := [.ref a_13, .int x3]) X I (mJ14_copyOf_2 hX ev_14) lvJ3_14 hdJ3_14 ⟨Nat.le_trans (Nat.le_of_ble_eq_true rfl) hR.1, Nat.le_trans (Nat.le_of_ble_eq_true rfl) hR.2⟩ rfl hl.1 rfl (Nat.le_of_ble_eq_true rfl) rfl dJ3_grow_55 (fun H locs cells slots I => ?_)
  refine lv_dup_x1 hx hb dJ3_grow_58 rfl rfl ?_
  obtain ⟨σ_16, eσ_16, hf⟩ := ob hf
  refine g_put X I pfJ3_3 rfl rfl eσ_16 dJ3_grow_59 (fun H locs I => ?_)
  refine lv_astore (lv' := [(5, .ref v_14), (0, .ref x0), (2, .int x2), (3, .int x3)]) hx hb dJ3_grow_62 hl (by decide) rfl (fun ls hl => ?_)
  refine lv_aload_n hx hb dJ3_grow_64 rfl (lv_at hl 1 rfl) ?_
  obtain ⟨v_17, ev_17, hf⟩ := ob hf
  refine g_get X I gfJ3_20 (gI_in ev_17) dJ3_grow_65 ?_
  refine lv_aload_n hx hb dJ3_grow_68 rfl (lv_at hl 1 rfl) ?_
  obtain ⟨v_18, ev_18, hf⟩ := ob hf
  refine g_get X I gfJ3_24 (gI_in ev_18) dJ3_grow_69 ?_
  refine lv_icmp_lt (tgt := 96) hx hb dJ3_grow_72 (by decide) (fun c_72 => ?_) (fun c_72 => ?_)
  · have hf := ip c_72 hf
    exact wJ3_grow_96 hX hR X N x0 x2 x3 v_14 σ_16 _ _ _ _ _ I (lv_sub hl [1, 2, 3, 0] rfl) hf
  · have hf := im c_72 hf
    refine lv_aload_n hx hb dJ3_grow_75 rfl (lv_at hl 1 rfl) ?_
    obtain ⟨v_19, ev_19, hf⟩ := ob hf
    refine g_get X I gfJ3_20 (gI_in ev_19) dJ3_grow_76 ?_
    refine lv_aload_n hx hb dJ3_grow_79 rfl (lv_at hl 1 rfl) ?_
    obtain ⟨v_20, ev_20, hf⟩ := ob hf
    refine g_get X I gfJ3_24 (gI_in ev_20) dJ3_grow_80 ?_
    refine lv_icmp_ne (tgt := 164) hx hb dJ3_grow_83 (by decide) (fun c_83 => ?_) (fun c_83 => ?_)
    · have hf := im c_83 hf
      cases os hf
      exact r_vret X I dJ3_grow_164
    · have hf := ip c_83 hf
      refine lv_aload hx hb dJ3_grow_86 (lv_at hl 0 rfl) ?_
      refine lv_aload_n hx hb dJ3_grow_88 rfl (lv_at hl 1 rfl) ?_
      obtain ⟨v_21, ev_21, hf⟩ := ob hf
      refine g_get X I gfJ3_24 (gI_in ev_21) dJ3_grow_89 ?_
      obtain ⟨v_22, ev_22, hf⟩ := ob hf
      refine g_aald X I (by decide) rfl ev_22 dJ3_grow_92 ?_
      have hga_23 := hf
      have hla_23 := hl
      have Ia_23 := I
      rcases v_22 with _ | a_23
      · have hf := oc_n hga_23
        have hl := hla_23
        have I := Ia_23
        refine lv_ifnullN (tgt := 164) hx hb dJ3_grow_93 (by decide) ?_
        cases os hf
        exact r_vret X I dJ3_grow_164
      · have hf := oc_s hga_23
        have hl := hla_23
        have I := Ia_23
        refine lv_ifnull hx hb dJ3_grow_93 ?_
        exact wJ3_grow_96 hX hR X N x0 x2 x3 v_14 σ_16 _ _ _ _ _ I (lv_sub hl [1, 2, 3, 0] rfl) hf
theorem wJ3_grow_41 {E : EV} {l : Launch} {p : Program} {e : Env} {s : State} {m : MethodId} {args : Array Value} {below : List Frame} {meth : Method} {c : Code} {R : Room} {res : St} (hX : XK E) (hR : 3 ≤ R.frames ∧ 84 ≤ R.locals) (X : MX E p s m args meth c cJ3_grow 9 none RJ3 "grow") (N : Nat) : ∀ (x0 : Nat) (x1 : Int32) (x2 : Int32) (x4 : Int32) (σ : St) (H : Heap) (locs : List Loc) (cells slots : Nat) (ls : Array Slot), WI E R s σ H locs cells slots → lv_has ls 9 [(0, .ref x0), (1, .int x1), (2, .int x2), (4, .int x4)] → fJ3_grow_41 N E.2.2.2.1 x0 x1 x2 x4 σ = some res → W p l e R s m args below meth c H locs cells slots (MQ below (Qd E R.cells R.slots none res) args s R.cells R.slots (fr E)) (F0 m 41 ls []) := by
  intro x0 x1 x2 x4 σ H locs cells slots ls I hl hf
  obtain ⟨⟨hx, hb, hml, hown, hts⟩, -⟩ := id X
  unfold fJ3_grow_41 at hf
  refine lv_aload_n hx hb dJ3_grow_41 rfl (lv_at hl 0 rfl) ?_
  refine lv_iload_n hx hb dJ3_grow_42 rfl (lv_at hl 1 rfl) ?_
  refine lv_iload hx hb dJ3_grow_43 (lv_at hl 3 rfl) ?_
  obtain ⟨u_24, eu_24, hf⟩ := ob hf
  obtain ⟨⟨v_25, σ_26⟩, ev_25, hf⟩ := ob hf
  refine cg_V (vw := (RJ3, TJ3, 3)) (ci := 22) (r := (some (.int v_25))) (σ' := σ_26) (rs := [.int v_25]) (rest := []) (As := [.int x1, .int x4]) X I eu_24 rfl (mJ3_newCapacity hX ev_25) lvJ3_10 hdJ3_10 ⟨Nat.le_trans (Nat.le_of_ble_eq_true rfl) hR.1, Nat.le_trans (Nat.le_of_ble_eq_true rfl) hR.2⟩ rfl hl.1 rfl (Nat.le_of_ble_eq_true rfl) rfl dJ3_grow_45 (fun H locs cells slots I => ?_)
  refine lv_istore_n (lv' := [(3, .int v_25), (0, .ref x0), (1, .int x1), (2, .int x2), (4, .int x4)]) hx hb dJ3_grow_48 rfl hl (by decide) rfl (fun ls hl => ?_)
  exact wJ3_grow_49 hX hR X N x0 x2 v_25 σ_26 _ _ _ _ _ I (lv_sub hl [1, 3, 0] rfl) hf
theorem wJ3_grow_21 {E : EV} {l : Launch} {p : Program} {e : Env} {s : State} {m : MethodId} {args : Array Value} {below : List Frame} {meth : Method} {c : Code} {R : Room} {res : St} (hX : XK E) (hR : 3 ≤ R.frames ∧ 84 ≤ R.locals) (X : MX E p s m args meth c cJ3_grow 9 none RJ3 "grow") (N : Nat) : ∀ (x0 : Nat) (x1 : Int32) (x2 : Int32) (y0 : Int32) (σ : St) (H : Heap) (locs : List Loc) (cells slots : Nat) (ls : Array Slot), WI E R s σ H locs cells slots → lv_has ls 9 [(0, .ref x0), (1, .int x1), (2, .int x2)] → fJ3_grow_21 N E.2.2.2.1 x0 x1 x2 y0 σ = some res → W p l e R s m args below meth c H locs cells slots (MQ below (Qd E R.cells R.slots none res) args s R.cells R.slots (fr E)) (F0 m 21 ls [.int y0]) := by
  intro x0 x1 x2 y0 σ H locs cells slots ls I hl hf
  obtain ⟨⟨hx, hb, hml, hown, hts⟩, -⟩ := id X
  unfold fJ3_grow_21 at hf
  refine lv_istore (lv' := [(4, .int y0), (0, .ref x0), (1, .int x1), (2, .int x2)]) hx hb dJ3_grow_21 hl (by decide) rfl (fun ls hl => ?_)
  refine lv_iload hx hb dJ3_grow_23 (lv_at hl 0 rfl) ?_
  refine lv_iload_n hx hb dJ3_grow_25 rfl (lv_at hl 2 rfl) ?_
  refine lv_icmp_lt (tgt := 41) hx hb dJ3_grow_26 (by decide) (fun c_26 => ?_) (fun c_26 => ?_)
  · have hf := ip c_26 hf
    exact wJ3_grow_41 hX hR X N x0 x1 x2 y0 σ _ _ _ _ _ I (lv_sub hl [1, 2, 3, 0] rfl) hf
  · have hf := im c_26 hf
    refine lv_iload_n hx hb dJ3_grow_29 rfl (lv_at hl 3 rfl) ?_
    refine lv_iload hx hb dJ3_grow_30 (lv_at hl 0 rfl) ?_
    refine lv_iadd hx hb dJ3_grow_32 ?_
    refine lv_dup hx hb dJ3_grow_33 rfl ?_
    obtain ⟨x3_27, ex3_27, hf⟩ := ol hf
    refine nm_i ex3_27 ?_
    refine lv_istore_n (lv' := [(3, .int x3_27), (4, .int y0), (0, .ref x0), (1, .int x1), (2, .int x2)]) hx hb dJ3_grow_34 rfl hl (by decide) rfl (fun ls hl => ?_)
    refine lv_ldc (v := 2147483639) hx hb hown (hts _ q2076) dJ3_grow_35 ?_
    refine lv_isub hx hb dJ3_grow_37 ?_
    refine lv_if_le (tgt := 49) hx hb dJ3_grow_38 (by decide) (fun c_38 => ?_) (fun c_38 => ?_)
    · have hf := ip c_38 hf
      exact wJ3_grow_49 hX hR X N x0 x2 x3_27 σ _ _ _ _ _ I (lv_sub hl [2, 4, 0] rfl) hf
    · have hf := im c_38 hf
      exact wJ3_grow_41 hX hR X N x0 x1 x2 y0 σ _ _ _ _ _ I (lv_sub hl [2, 3, 4, 1] rfl) hf
theorem wJ3_grow_0 {E : EV} {l : Launch} {p : Program} {e : Env} {s : State} {m : MethodId} {args : Array Value} {below : List Frame} {meth : Method} {c : Code} {R : Room} {res : St} (hX : XK E) (hR : 3 ≤ R.frames ∧ 84 ≤ R.locals) (X : MX E p s m args meth c cJ3_grow 9 none RJ3 "grow") (N : Nat) : ∀ (x0 : Nat) (x1 : Int32) (σ : St) (H : Heap) (locs : List Loc) (cells slots : Nat) (ls : Array Slot), WI E R s σ H locs cells slots → lv_has ls 9 [(0, .ref x0), (1, .int x1)] → fJ3_grow N E.2.2.2.1 σ x0 x1 = some res → W p l e R s m args below meth c H locs cells slots (MQ below (Qd E R.cells R.slots none res) args s R.cells R.slots (fr E)) (F0 m 0 ls []) := by
  intro x0 x1 σ H locs cells slots ls I hl hf
  obtain ⟨⟨hx, hb, hml, hown, hts⟩, -⟩ := id X
  unfold fJ3_grow at hf
  refine lv_aload_n hx hb dJ3_grow_0 rfl (lv_at hl 0 rfl) ?_
  obtain ⟨v_28, ev_28, hf⟩ := ob hf
  refine g_get X I gfJ3_3 (gR_in ev_28) dJ3_grow_1 ?_
  obtain ⟨a_29, ea_29, hga_29⟩ := ob hf
  have hla_29 := hl
  have Ia_29 := I
  subst ea_29
  have hf := hga_29
  have hl := hla_29
  have I := Ia_29
  obtain ⟨v_30, ev_30, hf⟩ := ob hf
  refine g_alen X I ev_30 dJ3_grow_4 ?_
  refine lv_istore_n (lv' := [(2, .int v_30), (0, .ref x0), (1, .int x1)]) hx hb dJ3_grow_5 rfl hl (by decide) rfl (fun ls hl => ?_)
  refine lv_iload_n hx hb dJ3_grow_6 rfl (lv_at hl 0 rfl) ?_
  refine lv_bipush (v := 64) hx hb dJ3_grow_7 (by decide) ?_
  refine lv_icmp_ge (tgt := 18) hx hb dJ3_grow_9 (by decide) (fun c_9 => ?_) (fun c_9 => ?_)
  · have hf := ip c_9 hf
    refine lv_iload_n hx hb dJ3_grow_18 rfl (lv_at hl 0 rfl) ?_
    refine lv_iconst (v := 1) hx hb dJ3_grow_19 (by decide) ?_
    refine lv_ishr hx hb dJ3_grow_20 ?_
    exact wJ3_grow_21 hX hR X N x0 x1 v_30 (v_30 >>> ((1 : Int32) &&& 31)) σ _ _ _ _ _ I (lv_sub hl [1, 2, 0] rfl) hf
  · have hf := im c_9 hf
    refine lv_iload_n hx hb dJ3_grow_12 rfl (lv_at hl 0 rfl) ?_
    refine lv_iconst (v := 2) hx hb dJ3_grow_13 (by decide) ?_
    refine lv_iadd hx hb dJ3_grow_14 ?_
    refine lv_goto (tgt := 21) hx hb dJ3_grow_15 (by decide) ?_
    exact wJ3_grow_21 hX hR X N x0 x1 v_30 (v_30 + (2 : Int32)) σ _ _ _ _ _ I (lv_sub hl [1, 2, 0] rfl) hf
theorem mJ3_grow {E : EV} {l : Launch} {N : Nat} {σ : St} {x0 : Nat} {x1 : Int32} {res : St} (hX : XK E) (hf : fJ3_grow N E.2.2.2.1 σ x0 x1 = some res) : CM E l yJ3_grow (ws_ yJ3_grow cJ3_grow 9 none) 3 84 [.ref x0, .int x1] σ none res := by
  refine CM.of hX.1 (by decide) rfl rfl (Nat.le_of_ble_eq_true rfl) ?_
  intro p e s m below meth c X I ls hl
  exact wJ3_grow_0 hX ⟨Nat.le_refl _, Nat.le_refl _⟩ X N _ _ _ _ _ _ _ _ I hl hf
/-! java/util/ArrayDeque.addLast(Ljava/lang/Object;)V imp=True fuel=True kap=True rt=None thr=False -/
theorem lvJ3_71 : GoodIn lw_all (wsV RJ3 71 RJ3 yJ3_grow (ws_ yJ3_grow cJ3_grow 9 none)) := lw_V q2072 q2074 qs29 q119 q2075
theorem hdJ3_71 : yJ3_grow.cls = RJ3 ∧ yJ3_grow.cls ≠ "java/lang/invoke/MethodHandle" ∧ yJ3_grow.cls ≠ "java/lang/invoke/VarHandle" ∧ (parseMethodDescriptor yJ3_grow.desc).map (fun d => d.parameters.length) = some 1 := by decide +kernel
def fJ3_addLast (N : Nat) (κ : Nat → Nat) (σ : St) (x0 : Nat) (x1 : Nat) : Option St := (gR σ x0 [(22, 0)]).bind fun v_1 : Option Nat => (gI σ x0 [(22, 2)]).bind fun v_2 : Int32 => (v_1).bind fun a_3 : Nat => (sR σ a_3 3 v_2 (some x1)).bind fun σ_4 : St => (gI σ_4 x0 [(22, 1)]).bind fun v_5 : Int32 => (gI σ_4 x0 [(22, 2)]).bind fun v_6 : Int32 => (aL σ_4 a_3).bind fun v_7 : Int32 => (fJ3_inc σ_4 v_6 v_7).bind fun v_8 : Int32 => (pV σ_4 x0 [(22, 2)] (.int v_8)).bind fun σ_10 : St => if v_5 = v_8 then (isC σ_10 x0 22).bind fun u_11 : Unit => (fJ3_grow N κ σ_10 x0 (1 : Int32)).bind fun σ_13 : St => some σ_13 else some σ_10
theorem wJ3_addLast_0 {E : EV} {l : Launch} {p : Program} {e : Env} {s : State} {m : MethodId} {args : Array Value} {below : List Frame} {meth : Method} {c : Code} {R : Room} {res : St} (hX : XK E) (hR : 4 ≤ R.frames ∧ 112 ≤ R.locals) (X : MX E p s m args meth c cJ3_addLast 3 none RJ3 "addLast") (N : Nat) : ∀ (x0 : Nat) (x1 : Nat) (σ : St) (H : Heap) (locs : List Loc) (cells slots : Nat) (ls : Array Slot), WI E R s σ H locs cells slots → lv_has ls 3 [(0, .ref x0), (1, .ref x1)] → fJ3_addLast N E.2.2.2.1 σ x0 x1 = some res → W p l e R s m args below meth c H locs cells slots (MQ below (Qd E R.cells R.slots none res) args s R.cells R.slots (fr E)) (F0 m 0 ls []) := by
  intro x0 x1 σ H locs cells slots ls I hl hf
  obtain ⟨⟨hx, hb, hml, hown, hts⟩, -⟩ := id X
  unfold fJ3_addLast at hf
  refine lv_aload_n hx hb dJ3_addLast_0 rfl (lv_at hl 1 rfl) ?_
  refine lv_ifnonnull (tgt := 12) hx hb dJ3_addLast_1 (by decide) ?_
  refine lv_aload_n hx hb dJ3_addLast_12 rfl (lv_at hl 0 rfl) ?_
  obtain ⟨v_1, ev_1, hf⟩ := ob hf
  refine g_get X I gfJ3_3 (gR_in ev_1) dJ3_addLast_13 ?_
  refine lo_astore_n (x := v_1) (lv' := [(2, va_rf v_1), (0, .ref x0), (1, .ref x1)]) hx hb dJ3_addLast_16 rfl hl (by decide) rfl (fun ls hl => ?_)
  refine lo_aload_n (x := v_1) hx hb dJ3_addLast_17 rfl (lv_at hl 0 rfl) ?_
  refine lv_aload_n hx hb dJ3_addLast_18 rfl (lv_at hl 1 rfl) ?_
  obtain ⟨v_2, ev_2, hf⟩ := ob hf
  refine g_get X I gfJ3_20 (gI_in ev_2) dJ3_addLast_19 ?_
  refine lv_aload_n hx hb dJ3_addLast_22 rfl (lv_at hl 2 rfl) ?_
  obtain ⟨a_3, ea_3, hga_3⟩ := ob hf
  have hla_3 := hl
  have Ia_3 := I
  subst ea_3
  have hf := hga_3
  have hl := hla_3
  have I := Ia_3
  obtain ⟨σ_4, eσ_4, hf⟩ := ob hf
  refine g_aast (v := (some x1)) hX X I (by decide) eσ_4 dJ3_addLast_23 (fun H locs I => ?_)
  refine lv_aload_n hx hb dJ3_addLast_24 rfl (lv_at hl 1 rfl) ?_
  obtain ⟨v_5, ev_5, hf⟩ := ob hf
  refine g_get X I gfJ3_24 (gI_in ev_5) dJ3_addLast_25 ?_
  refine lv_aload_n hx hb dJ3_addLast_28 rfl (lv_at hl 1 rfl) ?_
  refine lv_aload_n hx hb dJ3_addLast_29 rfl (lv_at hl 1 rfl) ?_
  obtain ⟨v_6, ev_6, hf⟩ := ob hf
  refine g_get X I gfJ3_20 (gI_in ev_6) dJ3_addLast_30 ?_
  refine lv_aload_n hx hb dJ3_addLast_33 rfl (lv_at hl 0 rfl) ?_
  obtain ⟨v_7, ev_7, hf⟩ := ob hf
  refine g_alen X I ev_7 dJ3_addLast_34 ?_
  obtain ⟨v_8, ev_8, hf⟩ := ob hf
  refine cg_S (r := (some (.int v_8))) (σ' := σ_4) (rs := [.int v_8, .ref x0, .int v_5]) (rest := [.ref x0, .int v_5]) (As := [.int v_6, .int v_7]) X I (mJ3_inc hX ev_8) lvJ3_74 hdJ3_74 ⟨Nat.le_trans (Nat.le_of_ble_eq_true rfl) hR.1, Nat.le_trans (Nat.le_of_ble_eq_true rfl) hR.2⟩ rfl hl.1 rfl (Nat.le_of_ble_eq_true rfl) rfl dJ3_addLast_35 (fun H locs cells slots I => ?_)
  refine lv_dup_x1 hx hb dJ3_addLast_38 rfl rfl ?_
  obtain ⟨σ_10, eσ_10, hf⟩ := ob hf
  refine g_put X I pfJ3_20 rfl rfl eσ_10 dJ3_addLast_39 (fun H locs I => ?_)
  refine lv_icmp_ne (tgt := 50) hx hb dJ3_addLast_42 (by decide) (fun c_42 => ?_) (fun c_42 => ?_)
  · have hf := im c_42 hf
    cases os hf
    exact r_vret X I dJ3_addLast_50
  · have hf := ip c_42 hf
    refine lv_aload_n hx hb dJ3_addLast_45 rfl (lv_at hl 1 rfl) ?_
    refine lv_iconst (v := 1) hx hb dJ3_addLast_46 (by decide) ?_
    obtain ⟨u_11, eu_11, hf⟩ := ob hf
    obtain ⟨σ_13, ev_12, hf⟩ := ob hf
    refine cg_V (vw := (RJ3, TJ3, 3)) (ci := 22) (r := none) (σ' := σ_13) (rs := []) (rest := []) (As := [.int (1 : Int32)]) X I eu_11 rfl (mJ3_grow hX ev_12) lvJ3_71 hdJ3_71 ⟨Nat.le_trans (Nat.le_of_ble_eq_true rfl) hR.1, Nat.le_trans (Nat.le_of_ble_eq_true rfl) hR.2⟩ rfl hl.1 rfl (Nat.le_of_ble_eq_true rfl) rfl dJ3_addLast_47 (fun H locs cells slots I => ?_)
    cases os hf
    exact r_vret X I dJ3_addLast_50
theorem mJ3_addLast {E : EV} {l : Launch} {N : Nat} {σ : St} {x0 : Nat} {x1 : Nat} {res : St} (hX : XK E) (hf : fJ3_addLast N E.2.2.2.1 σ x0 x1 = some res) : CM E l yJ3_addLast (ws_ yJ3_addLast cJ3_addLast 3 none) 4 112 [.ref x0, .ref x1] σ none res := by
  refine CM.of hX.1 (by decide) rfl rfl (Nat.le_of_ble_eq_true rfl) ?_
  intro p e s m below meth c X I ls hl
  exact wJ3_addLast_0 hX ⟨Nat.le_refl _, Nat.le_refl _⟩ X N _ _ _ _ _ _ _ _ I hl hf
/-! SharedTaxis.beginOperation()LSharedTaxis$State; imp=True fuel=True kap=True rt=O thr=False -/
theorem lvX1_110 : GoodIn lw_all (wsV RX1 110 RX2 yX2_copy (ws_ yX2_copy cX2_copy 1 (some (.object "SharedTaxis$State")))) := lw_V q875 q876 q877 q114 q878
theorem hdX1_110 : yX2_copy.cls = RX2 ∧ yX2_copy.cls ≠ "java/lang/invoke/MethodHandle" ∧ yX2_copy.cls ≠ "java/lang/invoke/VarHandle" ∧ (parseMethodDescriptor yX2_copy.desc).map (fun d => d.parameters.length) = some 0 := by decide +kernel
theorem lvX1_114 : GoodIn lw_all (wsV RX1 114 RJ3 yJ3_addLast (ws_ yJ3_addLast cJ3_addLast 3 none)) := lw_V q2068 q2069 q2070 q119 q2071
theorem hdX1_114 : yJ3_addLast.cls = RJ3 ∧ yJ3_addLast.cls ≠ "java/lang/invoke/MethodHandle" ∧ yJ3_addLast.cls ≠ "java/lang/invoke/VarHandle" ∧ (parseMethodDescriptor yJ3_addLast.desc).map (fun d => d.parameters.length) = some 1 := by decide +kernel
theorem lvX1_103 : GoodIn lw_all (wsV RX1 103 RJ3 yJ3_size (ws_ yJ3_size cJ3_size 1 (some .int))) := lw_V q840 q841 q842 q119 q843
theorem hdX1_103 : yJ3_size.cls = RJ3 ∧ yJ3_size.cls ≠ "java/lang/invoke/MethodHandle" ∧ yJ3_size.cls ≠ "java/lang/invoke/VarHandle" ∧ (parseMethodDescriptor yJ3_size.desc).map (fun d => d.parameters.length) = some 0 := by decide +kernel
theorem lvX1_106 : GoodIn lw_all (wsV RX1 106 RJ3 yJ3_removeFirst (ws_ yJ3_removeFirst cJ3_removeFirst 2 (some (.object "java/lang/Object")))) := lw_V q2059 q2060 q2061 q119 q2062
theorem hdX1_106 : yJ3_removeFirst.cls = RJ3 ∧ yJ3_removeFirst.cls ≠ "java/lang/invoke/MethodHandle" ∧ yJ3_removeFirst.cls ≠ "java/lang/invoke/VarHandle" ∧ (parseMethodDescriptor yJ3_removeFirst.desc).map (fun d => d.parameters.length) = some 0 := by decide +kernel
def fX1_beginOperation_20 (N : Nat) (κ : Nat → Nat) (x0 : Nat) (σ : St) : Option ((Option Nat) × St) := (gR σ x0 [(0, 5)]).bind fun v_1 : Option Nat => (gR σ x0 [(0, 3)]).bind fun v_2 : Option Nat => (v_2).bind fun a_3 : Nat => (isC σ a_3 1).bind fun u_4 : Unit => (fX2_copy N κ σ a_3).bind fun (v_5, σ_6) => (v_1).bind fun a_7 : Nat => (isC σ_6 a_7 22).bind fun u_8 : Unit => (fJ3_addLast N κ σ_6 a_7 v_5).bind fun σ_10 : St => (gR σ_10 x0 [(0, 3)]).bind fun v_11 : Option Nat => some ((v_11), σ_10)
def fX1_beginOperation (N : Nat) (κ : Nat → Nat) (σ : St) (x0 : Nat) : Option ((Option Nat) × St) := (gR σ x0 [(0, 5)]).bind fun v_12 : Option Nat => (v_12).bind fun a_13 : Nat => (isC σ a_13 22).bind fun u_14 : Unit => (fJ3_size σ a_13).bind fun v_15 : Int32 => if v_15 = (10 : Int32) then (gR σ x0 [(0, 5)]).bind fun v_17 : Option Nat => (v_17).bind fun a_18 : Nat => (isC σ a_18 22).bind fun u_19 : Unit => (fJ3_removeFirst σ a_18).bind fun (v_20, σ_21) => fX1_beginOperation_20 N κ x0 σ_21 else fX1_beginOperation_20 N κ x0 σ
theorem wX1_beginOperation_20 {E : EV} {l : Launch} {p : Program} {e : Env} {s : State} {m : MethodId} {args : Array Value} {below : List Frame} {meth : Method} {c : Code} {R : Room} {res : ((Option Nat) × St)} (hX : XK E) (hR : 9 ≤ R.frames ∧ 215 ≤ R.locals) (X : MX E p s m args meth c cX1_beginOperation 1 (some (.object "SharedTaxis$State")) RX1 "beginOperation") (N : Nat) : ∀ (x0 : Nat) (σ : St) (H : Heap) (locs : List Loc) (cells slots : Nat) (ls : Array Slot), WI E R s σ H locs cells slots → lv_has ls 1 [(0, .ref x0)] → fX1_beginOperation_20 N E.2.2.2.1 x0 σ = some res → W p l e R s m args below meth c H locs cells slots (MQ below (Qd E R.cells R.slots (some (va_rf res.1)) res.2) args s R.cells R.slots (fr E)) (F0 m 20 ls []) := by
  intro x0 σ H locs cells slots ls I hl hf
  obtain ⟨⟨hx, hb, hml, hown, hts⟩, -⟩ := id X
  unfold fX1_beginOperation_20 at hf
  refine lv_aload_n hx hb dX1_beginOperation_20 rfl (lv_at hl 0 rfl) ?_
  obtain ⟨v_1, ev_1, hf⟩ := ob hf
  refine g_get X I gfX1_93 (gR_in ev_1) dX1_beginOperation_21 ?_
  refine lv_aload_n hx hb dX1_beginOperation_24 rfl (lv_at hl 0 rfl) ?_
  obtain ⟨v_2, ev_2, hf⟩ := ob hf
  refine g_get X I gfX1_87 (gR_in ev_2) dX1_beginOperation_25 ?_
  obtain ⟨a_3, ea_3, hga_3⟩ := ob hf
  have hla_3 := hl
  have Ia_3 := I
  subst ea_3
  have hf := hga_3
  have hl := hla_3
  have I := Ia_3
  obtain ⟨u_4, eu_4, hf⟩ := ob hf
  obtain ⟨⟨v_5, σ_6⟩, ev_5, hf⟩ := ob hf
  refine cg_V (vw := (RX2, TX2, 7)) (ci := 1) (r := (some (.ref v_5))) (σ' := σ_6) (rs := [.ref v_5, va_rf v_1]) (rest := [va_rf v_1]) (As := []) X I eu_4 rfl (mX2_copy hX ev_5) lvX1_110 hdX1_110 ⟨Nat.le_trans (Nat.le_of_ble_eq_true rfl) hR.1, Nat.le_trans (Nat.le_of_ble_eq_true rfl) hR.2⟩ rfl hl.1 rfl (by rcases v_1 with _ | _ <;> exact (Nat.le_of_ble_eq_true rfl)) rfl dX1_beginOperation_28 (fun H locs cells slots I => ?_)
  obtain ⟨a_7, ea_7, hga_7⟩ := ob hf
  have hla_7 := hl
  have Ia_7 := I
  subst ea_7
  have hf := hga_7
  have hl := hla_7
  have I := Ia_7
  obtain ⟨u_8, eu_8, hf⟩ := ob hf
  obtain ⟨σ_10, ev_9, hf⟩ := ob hf
  refine cg_V (vw := (RJ3, TJ3, 3)) (ci := 22) (r := none) (σ' := σ_10) (rs := []) (rest := []) (As := [.ref v_5]) X I eu_8 rfl (mJ3_addLast hX ev_9) lvX1_114 hdX1_114 ⟨Nat.le_trans (Nat.le_of_ble_eq_true rfl) hR.1, Nat.le_trans (Nat.le_of_ble_eq_true rfl) hR.2⟩ rfl hl.1 rfl (Nat.le_of_ble_eq_true rfl) rfl dX1_beginOperation_31 (fun H locs cells slots I => ?_)
  refine lv_aload_n hx hb dX1_beginOperation_34 rfl (lv_at hl 0 rfl) ?_
  obtain ⟨v_11, ev_11, hf⟩ := ob hf
  refine g_get X I gfX1_87 (gR_in ev_11) dX1_beginOperation_35 ?_
  cases os hf
  exact r_aret X I (Or.inl ⟨_, rfl⟩) (rf_or _) dX1_beginOperation_38
theorem wX1_beginOperation_0 {E : EV} {l : Launch} {p : Program} {e : Env} {s : State} {m : MethodId} {args : Array Value} {below : List Frame} {meth : Method} {c : Code} {R : Room} {res : ((Option Nat) × St)} (hX : XK E) (hR : 9 ≤ R.frames ∧ 215 ≤ R.locals) (X : MX E p s m args meth c cX1_beginOperation 1 (some (.object "SharedTaxis$State")) RX1 "beginOperation") (N : Nat) : ∀ (x0 : Nat) (σ : St) (H : Heap) (locs : List Loc) (cells slots : Nat) (ls : Array Slot), WI E R s σ H locs cells slots → lv_has ls 1 [(0, .ref x0)] → fX1_beginOperation N E.2.2.2.1 σ x0 = some res → W p l e R s m args below meth c H locs cells slots (MQ below (Qd E R.cells R.slots (some (va_rf res.1)) res.2) args s R.cells R.slots (fr E)) (F0 m 0 ls []) := by
  intro x0 σ H locs cells slots ls I hl hf
  obtain ⟨⟨hx, hb, hml, hown, hts⟩, -⟩ := id X
  unfold fX1_beginOperation at hf
  refine lv_aload_n hx hb dX1_beginOperation_0 rfl (lv_at hl 0 rfl) ?_
  obtain ⟨v_12, ev_12, hf⟩ := ob hf
  refine g_get X I gfX1_93 (gR_in ev_12) dX1_beginOperation_1 ?_
  obtain ⟨a_13, ea_13, hga_13⟩ := ob hf
  have hla_13 := hl
  have Ia_13 := I
  subst ea_13
  have hf := hga_13
  have hl := hla_13
  have I := Ia_13
  obtain ⟨u_14, eu_14, hf⟩ := ob hf
  obtain ⟨v_15, ev_15, hf⟩ := ob hf
  refine cg_V (vw := (RJ3, TJ3, 3)) (ci := 22) (r := (some (.int v_15))) (σ' := σ) (rs := [.int v_15]) (rest := []) (As := []) X I eu_14 rfl (mJ3_size hX ev_15) lvX1_103 hdX1_103 ⟨Nat.le_trans (Nat.le_of_ble_eq_true rfl) hR.1, Nat.le_trans (Nat.le_of_ble_eq_true rfl) hR.2⟩ rfl hl.1 rfl (Nat.le_of_ble_eq_true rfl) rfl dX1_beginOperation_4 (fun H locs cells slots I => ?_)
  refine lv_bipush (v := 10) hx hb dX1_beginOperation_7 (by decide) ?_
  refine lv_icmp_ne (tgt := 20) hx hb dX1_beginOperation_9 (by decide) (fun c_9 => ?_) (fun c_9 => ?_)
  · have hf := im c_9 hf
    exact wX1_beginOperation_20 hX hR X N x0 σ _ _ _ _ _ I (lv_sub hl [0] rfl) hf
  · have hf := ip c_9 hf
    refine lv_aload_n hx hb dX1_beginOperation_12 rfl (lv_at hl 0 rfl) ?_
    obtain ⟨v_17, ev_17, hf⟩ := ob hf
    refine g_get X I gfX1_93 (gR_in ev_17) dX1_beginOperation_13 ?_
    obtain ⟨a_18, ea_18, hga_18⟩ := ob hf
    have hla_18 := hl
    have Ia_18 := I
    subst ea_18
    have hf := hga_18
    have hl := hla_18
    have I := Ia_18
    obtain ⟨u_19, eu_19, hf⟩ := ob hf
    obtain ⟨⟨v_20, σ_21⟩, ev_20, hf⟩ := ob hf
    refine cg_V (vw := (RJ3, TJ3, 3)) (ci := 22) (r := (some (va_rf v_20))) (σ' := σ_21) (rs := [va_rf v_20]) (rest := []) (As := []) X I eu_19 rfl (mJ3_removeFirst hX ev_20) lvX1_106 hdX1_106 ⟨Nat.le_trans (Nat.le_of_ble_eq_true rfl) hR.1, Nat.le_trans (Nat.le_of_ble_eq_true rfl) hR.2⟩ rfl hl.1 rfl (Nat.le_of_ble_eq_true rfl) rfl dX1_beginOperation_16 (fun H locs cells slots I => ?_)
    refine lv_pop hx hb dX1_beginOperation_19 (rf_cat _) ?_
    exact wX1_beginOperation_20 hX hR X N x0 σ_21 _ _ _ _ _ I (lv_sub hl [0] rfl) hf
theorem mX1_beginOperation {E : EV} {l : Launch} {N : Nat} {σ : St} {x0 : Nat} {res : ((Option Nat) × St)} (hX : XK E) (hf : fX1_beginOperation N E.2.2.2.1 σ x0 = some res) : CM E l yX1_beginOperation (ws_ yX1_beginOperation cX1_beginOperation 1 (some (.object "SharedTaxis$State"))) 9 215 [.ref x0] σ (some (va_rf res.1)) res.2 := by
  refine CM.of hX.1 (by decide) rfl rfl (Nat.le_of_ble_eq_true rfl) ?_
  intro p e s m below meth c X I ls hl
  exact wX1_beginOperation_0 hX ⟨Nat.le_refl _, Nat.le_refl _⟩ X N _ _ _ _ _ _ _ I hl hf
/-! SharedTaxis$Offer.<init>(ILSharedTaxis$Search;I)V imp=True fuel=False kap=False rt=None thr=False -/
theorem pfX17_7 : ∀ q ∈ ([(15, 0)] : List (Nat × Nat)), PI RX17 7 .int q := List.forall_mem_cons.mpr ⟨⟨RX17, TX17, 5, tyX17, rfl, in_X17, by decide, q2095, rfl, tyX17_ok, nmX17, rfl, rfl⟩, fun _ h => by cases h⟩
theorem gfX17_13 : ∀ q ∈ ([(12, 3)] : List (Nat × Nat)), GN RX17 13 q := List.forall_mem_cons.mpr ⟨⟨RX14, TX14, 8, _, rfl, in_X14, by decide, q1778⟩, fun _ h => by cases h⟩
theorem pfX17_18 : ∀ q ∈ ([(15, 1)] : List (Nat × Nat)), PI RX17 18 .int q := List.forall_mem_cons.mpr ⟨⟨RX17, TX17, 5, tyX17, rfl, in_X17, by decide, q2097, rfl, tyX17_ok, nmX17, rfl, rfl⟩, fun _ h => by cases h⟩
theorem gfX17_19 : ∀ q ∈ ([(12, 4)] : List (Nat × Nat)), GN RX17 19 q := List.forall_mem_cons.mpr ⟨⟨RX14, TX14, 8, _, rfl, in_X14, by decide, q1781⟩, fun _ h => by cases h⟩
theorem pfX17_22 : ∀ q ∈ ([(15, 2)] : List (Nat × Nat)), PI RX17 22 .int q := List.forall_mem_cons.mpr ⟨⟨RX17, TX17, 5, tyX17, rfl, in_X17, by decide, q2099, rfl, tyX17_ok, nmX17, rfl, rfl⟩, fun _ h => by cases h⟩
theorem gfX17_23 : ∀ q ∈ ([(12, 5)] : List (Nat × Nat)), GN RX17 23 q := List.forall_mem_cons.mpr ⟨⟨RX14, TX14, 8, _, rfl, in_X14, by decide, q1784⟩, fun _ h => by cases h⟩
theorem pfX17_26 : ∀ q ∈ ([(15, 3)] : List (Nat × Nat)), PI RX17 26 .int q := List.forall_mem_cons.mpr ⟨⟨RX17, TX17, 5, tyX17, rfl, in_X17, by decide, q2101, rfl, tyX17_ok, nmX17, rfl, rfl⟩, fun _ h => by cases h⟩
theorem pfX17_27 : ∀ q ∈ ([(15, 4)] : List (Nat × Nat)), PI RX17 27 .int q := List.forall_mem_cons.mpr ⟨⟨RX17, TX17, 5, tyX17, rfl, in_X17, by decide, q2102, rfl, tyX17_ok, nmX17, rfl, rfl⟩, fun _ h => by cases h⟩
def fX17_init (σ : St) (x0 : Nat) (x1 : Int32) (x2 : Nat) (x3 : Int32) : Option St := (pV σ x0 [(15, 0)] (.int x1)).bind fun σ_1 : St => (gI σ_1 x2 [(12, 3)]).bind fun v_2 : Int32 => (pV σ_1 x0 [(15, 1)] (.int v_2)).bind fun σ_3 : St => (gI σ_3 x2 [(12, 4)]).bind fun v_4 : Int32 => (pV σ_3 x0 [(15, 2)] (.int v_4)).bind fun σ_5 : St => (gI σ_5 x2 [(12, 5)]).bind fun v_6 : Int32 => (pV σ_5 x0 [(15, 3)] (.int v_6)).bind fun σ_7 : St => (pV σ_7 x0 [(15, 4)] (.int x3)).bind fun σ_8 : St => some σ_8
theorem wX17_init_0 {E : EV} {l : Launch} {p : Program} {e : Env} {s : State} {m : MethodId} {args : Array Value} {below : List Frame} {meth : Method} {c : Code} {R : Room} {res : St} (hX : XK E) (hR : 1 ≤ R.frames ∧ 20 ≤ R.locals) (X : MX E p s m args meth c cX17_init 4 none RX17 "<init>") : ∀ (x0 : Nat) (x1 : Int32) (x2 : Nat) (x3 : Int32) (σ : St) (H : Heap) (locs : List Loc) (cells slots : Nat) (ls : Array Slot), WI E R s σ H locs cells slots → lv_has ls 4 [(0, .ref x0), (1, .int x1), (2, .ref x2), (3, .int x3)] → fX17_init σ x0 x1 x2 x3 = some res → W p l e R s m args below meth c H locs cells slots (MQ below (Qd E R.cells R.slots none res) args s R.cells R.slots (fr E)) (F0 m 0 ls []) := by
  intro x0 x1 x2 x3 σ H locs cells slots ls I hl hf
  obtain ⟨⟨hx, hb, hml, hown, hts⟩, -⟩ := id X
  unfold fX17_init at hf
  refine lv_aload_n hx hb dX17_init_0 rfl (lv_at hl 0 rfl) ?_
  refine g_objInit X ⟨Nat.le_trans (Nat.le_of_ble_eq_true rfl) hR.1, Nat.le_trans (Nat.le_of_ble_eq_true rfl) hR.2⟩ q2094 hl.1 (Nat.le_of_ble_eq_true rfl) dX17_init_1 ?_
  refine lv_aload_n hx hb dX17_init_4 rfl (lv_at hl 0 rfl) ?_
  refine lv_iload_n hx hb dX17_init_5 rfl (lv_at hl 1 rfl) ?_
  obtain ⟨σ_1, eσ_1, hf⟩ := ob hf
  refine g_putI X I pfX17_7 rfl rfl eσ_1 dX17_init_6 (fun H locs I => ?_)
  refine lv_aload_n hx hb dX17_init_9 rfl (lv_at hl 0 rfl) ?_
  refine lv_aload_n hx hb dX17_init_10 rfl (lv_at hl 2 rfl) ?_
  obtain ⟨v_2, ev_2, hf⟩ := ob hf
  refine g_getN hX X I gfX17_13 (gI_in ev_2) dX17_init_11 ?_
  obtain ⟨σ_3, eσ_3, hf⟩ := ob hf
  refine g_putI X I pfX17_18 rfl rfl eσ_3 dX17_init_14 (fun H locs I => ?_)
  refine lv_aload_n hx hb dX17_init_17 rfl (lv_at hl 0 rfl) ?_
  refine lv_aload_n hx hb dX17_init_18 rfl (lv_at hl 2 rfl) ?_
  obtain ⟨v_4, ev_4, hf⟩ := ob hf
  refine g_getN hX X I gfX17_19 (gI_in ev_4) dX17_init_19 ?_
  obtain ⟨σ_5, eσ_5, hf⟩ := ob hf
  refine g_putI X I pfX17_22 rfl rfl eσ_5 dX17_init_22 (fun H locs I => ?_)
  refine lv_aload_n hx hb dX17_init_25 rfl (lv_at hl 0 rfl) ?_
  refine lv_aload_n hx hb dX17_init_26 rfl (lv_at hl 2 rfl) ?_
  obtain ⟨v_6, ev_6, hf⟩ := ob hf
  refine g_getN hX X I gfX17_23 (gI_in ev_6) dX17_init_27 ?_
  obtain ⟨σ_7, eσ_7, hf⟩ := ob hf
  refine g_putI X I pfX17_26 rfl rfl eσ_7 dX17_init_30 (fun H locs I => ?_)
  refine lv_aload_n hx hb dX17_init_33 rfl (lv_at hl 0 rfl) ?_
  refine lv_iload_n hx hb dX17_init_34 rfl (lv_at hl 3 rfl) ?_
  obtain ⟨σ_8, eσ_8, hf⟩ := ob hf
  refine g_putI X I pfX17_27 rfl rfl eσ_8 dX17_init_35 (fun H locs I => ?_)
  cases os hf
  exact r_vret X I dX17_init_38
theorem mX17_init {E : EV} {l : Launch} {σ : St} {x0 : Nat} {x1 : Int32} {x2 : Nat} {x3 : Int32} {res : St} (hX : XK E) (hf : fX17_init σ x0 x1 x2 x3 = some res) : CM E l yX17_init (ws_ yX17_init cX17_init 4 none) 1 20 [.ref x0, .int x1, .ref x2, .int x3] σ none res := by
  refine CM.of hX.1 (by decide) rfl rfl (Nat.le_of_ble_eq_true rfl) ?_
  intro p e s m below meth c X I ls hl
  exact wX17_init_0 hX ⟨Nat.le_refl _, Nat.le_refl _⟩ X _ _ _ _ _ _ _ _ _ _ I hl hf
/-! SharedTaxis$Search.offer(I)LSharedTaxis$Offer; imp=True fuel=True kap=True rt=O thr=False -/
theorem noX14_132 : NO RX14 132 15 5 [.int 0, .int 0, .int 0, .int 0, .int 0] := ⟨RX17, TX17, tyX17, rfl, in_X17, tyX17_ok, by decide, q2089, q2090, q154⟩
theorem gfX14_18 : ∀ q ∈ ([(12, 0)] : List (Nat × Nat)), GF RX14 18 q := List.forall_mem_cons.mpr ⟨⟨RX14, TX14, 8, _, rfl, in_X14, by decide, q1775, Or.inl rfl⟩, fun _ h => by cases h⟩
theorem gfX14_135 : ∀ q ∈ ([(1, 4)] : List (Nat × Nat)), GN RX14 135 q := List.forall_mem_cons.mpr ⟨⟨RX2, TX2, 7, _, rfl, in_X2, by decide, q251⟩, fun _ h => by cases h⟩
theorem gfX14_138 : ∀ q ∈ ([(1, 1)] : List (Nat × Nat)), GN RX14 138 q := List.forall_mem_cons.mpr ⟨⟨RX2, TX2, 7, _, rfl, in_X2, by decide, q239⟩, fun _ h => by cases h⟩
theorem lvX14_142 : GoodIn lw_all (ws_ yX17_init cX17_init 4 none) ∧ Cond.initialized yX17_init.cls ∈ lw_all ∧ Cond.methodLink RX14 142 yX17_init ∈ lw_all ∧ Cond.instanceMethod yX17_init ∈ lw_all ∧ yX17_init.name = "<init>" := ⟨lw_meth q2093, q154, q2091, q2092, rfl⟩
theorem hdX14_142 : yX17_init.cls ≠ "java/lang/invoke/MethodHandle" ∧ yX17_init.cls ≠ "java/lang/invoke/VarHandle" ∧ (parseMethodDescriptor yX17_init.desc).map (fun d => d.parameters.length) = some 3 := by decide +kernel
theorem gfX14_122 : ∀ q ∈ ([(1, 5)] : List (Nat × Nat)), GN RX14 122 q := List.forall_mem_cons.mpr ⟨⟨RX2, TX2, 7, _, rfl, in_X2, by decide, q256⟩, fun _ h => by cases h⟩
theorem lvX14_127 : GoodIn lw_all (wsV RX14 127 RX14 yX14_find (ws_ yX14_find cX14_find 9 (some .boolean))) := lw_V q2088 q1806 q1807 q150 q1808
theorem hdX14_127 : yX14_find.cls = RX14 ∧ yX14_find.cls ≠ "java/lang/invoke/MethodHandle" ∧ yX14_find.cls ≠ "java/lang/invoke/VarHandle" ∧ (parseMethodDescriptor yX14_find.desc).map (fun d => d.parameters.length) = some 2 := by decide +kernel
theorem gfX14_131 : ∀ q ∈ ([(15, 1)] : List (Nat × Nat)), GN RX14 131 q := List.forall_mem_cons.mpr ⟨⟨RX17, TX17, 5, _, rfl, in_X17, by decide, q2098⟩, fun _ h => by cases h⟩
theorem gfX14_134 : ∀ q ∈ ([(15, 2)] : List (Nat × Nat)), GN RX14 134 q := List.forall_mem_cons.mpr ⟨⟨RX17, TX17, 5, _, rfl, in_X17, by decide, q2100⟩, fun _ h => by cases h⟩
def fX14_offer_108 (N : Nat) (κ : Nat → Nat) (r4 : Nat → Int32 → Option Nat → Int32 → St → Option ((Option Nat) × St)) (x0 : Nat) (x1 : Int32) (x2 : Option Nat) (x3 : Int32) (σ : St) : Option ((Option Nat) × St) := lt (x3 + 1) fun x3_1 : Int32 => r4 x0 x1 x2 x3_1 σ
def fX14_offer_81 (N : Nat) (κ : Nat → Nat) (r4 : Nat → Int32 → Option Nat → Int32 → St → Option ((Option Nat) × St)) (x0 : Nat) (x1 : Int32) (x3 : Int32) (σ : St) : Option ((Option Nat) × St) := (nH σ 5 (.inr (15, [.int 0, .int 0, .int 0, .int 0, .int 0]))).bind fun (q_2a, q_2s) => (gR q_2s x0 [(12, 0)]).bind fun v_3 : Option Nat => (v_3).bind fun a_4 : Nat => (gI q_2s a_4 [(1, 4)]).bind fun v_5 : Int32 => (gR q_2s x0 [(12, 0)]).bind fun v_6 : Option Nat => (v_6).bind fun a_7 : Nat => (gR q_2s a_7 [(1, 1)]).bind fun v_8 : Option Nat => (v_8).bind fun a_9 : Nat => (aI q_2s a_9 0 (2 : Int32)).bind fun v_10 : Int32 => (fX17_init q_2s q_2a x3 x0 (v_5 + v_10)).bind fun σ_12 : St => fX14_offer_108 N κ r4 x0 x1 (some q_2a) x3 σ_12
def fX14_offer_4 (N : Nat) (κ : Nat → Nat) : Nat → Nat → Int32 → Option Nat → Int32 → St → Option ((Option Nat) × St)
  | 0, _, _, _, _, _ => none
  | n + 1, x0, x1, x2, x3, σ => (gR σ x0 [(12, 0)]).bind fun v_13 : Option Nat => (v_13).bind fun a_14 : Nat => (gR σ a_14 [(1, 5)]).bind fun v_15 : Option Nat => (v_15).bind fun a_16 : Nat => (isC σ a_16 21).bind fun u_17 : Unit => (fJ2_size σ a_16).bind fun v_18 : Int32 => if v_18 ≤ x3 then some ((x2), σ) else (gR σ x0 [(12, 0)]).bind fun v_20 : Option Nat => (v_20).bind fun a_21 : Nat => (gR σ a_21 [(1, 5)]).bind fun v_22 : Option Nat => (v_22).bind fun a_23 : Nat => (isC σ a_23 21).bind fun u_24 : Unit => (fJ2_get σ a_23 x3).bind fun v_25 : Option Nat => (v_25).bind fun a_27 : Nat => (isC σ a_27 10).bind fun u_28 : Unit => (isC σ x0 12).bind fun u_29 : Unit => (fX14_find N κ σ x0 a_27 x1).bind fun (v_30, σ_31) => if v_30 = 0 then fX14_offer_108 N κ (fX14_offer_4 N κ n) x0 x1 x2 x3 σ_31 else oc x2 (fX14_offer_81 N κ (fX14_offer_4 N κ n) x0 x1 x3 σ_31) fun a_32 => (gI σ_31 x0 [(12, 3)]).bind fun v_33 : Int32 => (gI σ_31 a_32 [(15, 1)]).bind fun v_34 : Int32 => if v_33 < v_34 then fX14_offer_81 N κ (fX14_offer_4 N κ n) x0 x1 x3 σ_31 else (gI σ_31 x0 [(12, 3)]).bind fun v_35 : Int32 => (gI σ_31 a_32 [(15, 1)]).bind fun v_36 : Int32 => if v_35 = v_36 then (gI σ_31 x0 [(12, 4)]).bind fun v_37 : Int32 => (gI σ_31 a_32 [(15, 2)]).bind fun v_38 : Int32 => if v_38 ≤ v_37 then fX14_offer_108 N κ (fX14_offer_4 N κ n) x0 x1 (some a_32) x3 σ_31 else fX14_offer_81 N κ (fX14_offer_4 N κ n) x0 x1 x3 σ_31 else fX14_offer_108 N κ (fX14_offer_4 N κ n) x0 x1 (some a_32) x3 σ_31
def fX14_offer (N : Nat) (κ : Nat → Nat) (σ : St) (x0 : Nat) (x1 : Int32) : Option ((Option Nat) × St) := fX14_offer_4 N κ N x0 x1 none (0 : Int32) σ
theorem wX14_offer_108 {E : EV} {l : Launch} {p : Program} {e : Env} {s : State} {m : MethodId} {args : Array Value} {below : List Frame} {meth : Method} {c : Code} {R : Room} {res : ((Option Nat) × St)} (hX : XK E) (hR : 10 ≤ R.frames ∧ 247 ≤ R.locals) (X : MX E p s m args meth c cX14_offer 4 (some (.object "SharedTaxis$Offer")) RX14 "offer") (N : Nat) (r4 : Nat → Int32 → Option Nat → Int32 → St → Option ((Option Nat) × St)) (hr4 : ∀ (x0 : Nat) (x1 : Int32) (x2 : Option Nat) (x3 : Int32) (σ : St) (H : Heap) (locs : List Loc) (cells slots : Nat) (ls : Array Slot), WI E R s σ H locs cells slots → lv_has ls 4 [(0, .ref x0), (1, .int x1), (2, va_rf x2), (3, .int x3)] → r4 x0 x1 x2 x3 σ = some res → W p l e R s m args below meth c H locs cells slots (MQ below (Qd E R.cells R.slots (some (va_rf res.1)) res.2) args s R.cells R.slots (fr E)) (F0 m 4 ls [])) : ∀ (x0 : Nat) (x1 : Int32) (x2 : Option Nat) (x3 : Int32) (σ : St) (H : Heap) (locs : List Loc) (cells slots : Nat) (ls : Array Slot), WI E R s σ H locs cells slots → lv_has ls 4 [(0, .ref x0), (1, .int x1), (2, va_rf x2), (3, .int x3)] → fX14_offer_108 N E.2.2.2.1 r4 x0 x1 x2 x3 σ = some res → W p l e R s m args below meth c H locs cells slots (MQ below (Qd E R.cells R.slots (some (va_rf res.1)) res.2) args s R.cells R.slots (fr E)) (F0 m 108 ls []) := by
  intro x0 x1 x2 x3 σ H locs cells slots ls I hl hf
  obtain ⟨⟨hx, hb, hml, hown, hts⟩, -⟩ := id X
  unfold fX14_offer_108 at hf
  obtain ⟨x3_1, ex3_1, hf⟩ := ol hf
  refine lv_iinc (v := x3_1) (lv' := [(3, .int x3_1), (0, .ref x0), (1, .int x1), (2, va_rf x2)]) hx hb dX14_offer_108 hl (k := 3) rfl ex3_1 (by decide) (by rcases x2 with _ | _ <;> exact rfl) (fun ls hl => ?_)
  refine lv_goto (tgt := 4) hx hb dX14_offer_111 (by decide) ?_
  exact hr4 x0 x1 x2 x3_1 σ _ _ _ _ _ I (lv_sub hl [1, 2, 3, 0] rfl) hf
theorem wX14_offer_81 {E : EV} {l : Launch} {p : Program} {e : Env} {s : State} {m : MethodId} {args : Array Value} {below : List Frame} {meth : Method} {c : Code} {R : Room} {res : ((Option Nat) × St)} (hX : XK E) (hR : 10 ≤ R.frames ∧ 247 ≤ R.locals) (X : MX E p s m args meth c cX14_offer 4 (some (.object "SharedTaxis$Offer")) RX14 "offer") (N : Nat) (r4 : Nat → Int32 → Option Nat → Int32 → St → Option ((Option Nat) × St)) (hr4 : ∀ (x0 : Nat) (x1 : Int32) (x2 : Option Nat) (x3 : Int32) (σ : St) (H : Heap) (locs : List Loc) (cells slots : Nat) (ls : Array Slot), WI E R s σ H locs cells slots → lv_has ls 4 [(0, .ref x0), (1, .int x1), (2, va_rf x2), (3, .int x3)] → r4 x0 x1 x2 x3 σ = some res → W p l e R s m args below meth c H locs cells slots (MQ below (Qd E R.cells R.slots (some (va_rf res.1)) res.2) args s R.cells R.slots (fr E)) (F0 m 4 ls [])) : ∀ (x0 : Nat) (x1 : Int32) (x3 : Int32) (σ : St) (H : Heap) (locs : List Loc) (cells slots : Nat) (ls : Array Slot), WI E R s σ H locs cells slots → lv_has ls 4 [(0, .ref x0), (1, .int x1), (3, .int x3)] → fX14_offer_81 N E.2.2.2.1 r4 x0 x1 x3 σ = some res → W p l e R s m args below meth c H locs cells slots (MQ below (Qd E R.cells R.slots (some (va_rf res.1)) res.2) args s R.cells R.slots (fr E)) (F0 m 81 ls []) := by
  intro x0 x1 x3 σ H locs cells slots ls I hl hf
  obtain ⟨⟨hx, hb, hml, hown, hts⟩, -⟩ := id X
  unfold fX14_offer_81 at hf
  obtain ⟨⟨q_2a, q_2s⟩, eq_2, hf⟩ := ob hf
  refine g_new X I noX14_132 eq_2 dX14_offer_81 (fun H locs cells slots I => ?_)
  refine lv_dup hx hb dX14_offer_84 rfl ?_
  refine lv_iload_n hx hb dX14_offer_85 rfl (lv_at hl 2 rfl) ?_
  refine lv_aload_n hx hb dX14_offer_86 rfl (lv_at hl 0 rfl) ?_
  refine lv_aload_n hx hb dX14_offer_87 rfl (lv_at hl 0 rfl) ?_
  obtain ⟨v_3, ev_3, hf⟩ := ob hf
  refine g_get X I gfX14_18 (gR_in ev_3) dX14_offer_88 ?_
  obtain ⟨a_4, ea_4, hga_4⟩ := ob hf
  have hla_4 := hl
  have Ia_4 := I
  subst ea_4
  have hf := hga_4
  have hl := hla_4
  have I := Ia_4
  obtain ⟨v_5, ev_5, hf⟩ := ob hf
  refine g_getN hX X I gfX14_135 (gI_in ev_5) dX14_offer_91 ?_
  refine lv_aload_n hx hb dX14_offer_94 rfl (lv_at hl 0 rfl) ?_
  obtain ⟨v_6, ev_6, hf⟩ := ob hf
  refine g_get X I gfX14_18 (gR_in ev_6) dX14_offer_95 ?_
  obtain ⟨a_7, ea_7, hga_7⟩ := ob hf
  have hla_7 := hl
  have Ia_7 := I
  subst ea_7
  have hf := hga_7
  have hl := hla_7
  have I := Ia_7
  obtain ⟨v_8, ev_8, hf⟩ := ob hf
  refine g_getN hX X I gfX14_138 (gR_in ev_8) dX14_offer_98 ?_
  refine lv_iconst (v := 2) hx hb dX14_offer_101 (by decide) ?_
  obtain ⟨a_9, ea_9, hga_9⟩ := ob hf
  have hla_9 := hl
  have Ia_9 := I
  subst ea_9
  have hf := hga_9
  have hl := hla_9
  have I := Ia_9
  obtain ⟨v_10, ev_10, hf⟩ := ob hf
  refine g_iald X I ev_10 dX14_offer_102 ?_
  refine lv_iadd hx hb dX14_offer_103 ?_
  obtain ⟨σ_12, ev_11, hf⟩ := ob hf
  refine cm_I (σ' := σ_12) (rs := [.ref q_2a]) (rest := [.ref q_2a]) (As := [.int x3, .ref x0, .int (v_5 + v_10)]) X I (mX17_init hX ev_11) lvX14_142 hdX14_142 ⟨Nat.le_trans (Nat.le_of_ble_eq_true rfl) hR.1, Nat.le_trans (Nat.le_of_ble_eq_true rfl) hR.2⟩ rfl hl.1 rfl (Nat.le_of_ble_eq_true rfl) rfl dX14_offer_104 (fun H locs cells slots I => ?_)
  refine lv_astore_n (lv' := [(2, .ref q_2a), (0, .ref x0), (1, .int x1), (3, .int x3)]) hx hb dX14_offer_107 rfl hl (by decide) rfl (fun ls hl => ?_)
  exact wX14_offer_108 hX hR X N r4 hr4 x0 x1 (some q_2a) x3 σ_12 _ _ _ _ _ I (lv_sub hl [1, 2, 0, 3] rfl) hf
theorem wX14_offer_4 {E : EV} {l : Launch} {p : Program} {e : Env} {s : State} {m : MethodId} {args : Array Value} {below : List Frame} {meth : Method} {c : Code} {R : Room} {res : ((Option Nat) × St)} (hX : XK E) (hR : 10 ≤ R.frames ∧ 247 ≤ R.locals) (X : MX E p s m args meth c cX14_offer 4 (some (.object "SharedTaxis$Offer")) RX14 "offer") (N : Nat) : ∀ (n : Nat) (x0 : Nat) (x1 : Int32) (x2 : Option Nat) (x3 : Int32) (σ : St) (H : Heap) (locs : List Loc) (cells slots : Nat) (ls : Array Slot), WI E R s σ H locs cells slots → lv_has ls 4 [(0, .ref x0), (1, .int x1), (2, va_rf x2), (3, .int x3)] → fX14_offer_4 N E.2.2.2.1 n x0 x1 x2 x3 σ = some res → W p l e R s m args below meth c H locs cells slots (MQ below (Qd E R.cells R.slots (some (va_rf res.1)) res.2) args s R.cells R.slots (fr E)) (F0 m 4 ls []) := by
  intro n
  induction n with
  | zero => intro x0 x1 x2 x3 σ H locs cells slots ls I hl hf; exact nomatch (show none = some res from hf)
  | succ n ih =>
    intro x0 x1 x2 x3 σ H locs cells slots ls I hl hf
    obtain ⟨⟨hx, hb, hml, hown, hts⟩, -⟩ := id X
    rw [fX14_offer_4.eq_2] at hf
    refine lv_iload_n hx hb dX14_offer_4 rfl (lv_at hl 3 rfl) ?_
    refine lv_aload_n hx hb dX14_offer_5 rfl (lv_at hl 0 rfl) ?_
    obtain ⟨v_13, ev_13, hf⟩ := ob hf
    refine g_get X I gfX14_18 (gR_in ev_13) dX14_offer_6 ?_
    obtain ⟨a_14, ea_14, hga_14⟩ := ob hf
    have hla_14 := hl
    have Ia_14 := I
    subst ea_14
    have hf := hga_14
    have hl := hla_14
    have I := Ia_14
    obtain ⟨v_15, ev_15, hf⟩ := ob hf
    refine g_getN hX X I gfX14_122 (gR_in ev_15) dX14_offer_9 ?_
    obtain ⟨a_16, ea_16, hga_16⟩ := ob hf
    have hla_16 := hl
    have Ia_16 := I
    subst ea_16
    have hf := hga_16
    have hl := hla_16
    have I := Ia_16
    obtain ⟨u_17, eu_17, hf⟩ := ob hf
    obtain ⟨v_18, ev_18, hf⟩ := ob hf
    refine cg_F (vw := (RJ2, TJ2, 3)) (ci := 21) (r := (some (.int v_18))) (σ' := σ) (rs := [.int v_18, .int x3]) (rest := [.int x3]) (As := []) hX X I eu_17 rfl (mJ2_size hX ev_18) lvX14_41_J2 hdX14_41_J2 ⟨Nat.le_trans (Nat.le_of_ble_eq_true rfl) hR.1, Nat.le_trans (Nat.le_of_ble_eq_true rfl) hR.2⟩ rfl hl.1 rfl (Nat.le_of_ble_eq_true rfl) rfl dX14_offer_12 (fun H locs cells slots I => ?_)
    refine lv_icmp_ge (tgt := 114) hx hb dX14_offer_17 (by decide) (fun c_17 => ?_) (fun c_17 => ?_)
    · have hf := ip c_17 hf
      refine lo_aload_n (x := x2) hx hb dX14_offer_114 rfl (lv_at hl 2 rfl) ?_
      cases os hf
      exact r_aret X I (Or.inl ⟨_, rfl⟩) (rf_or _) dX14_offer_115
    · have hf := im c_17 hf
      refine lv_aload_n hx hb dX14_offer_20 rfl (lv_at hl 0 rfl) ?_
      refine lv_aload_n hx hb dX14_offer_21 rfl (lv_at hl 0 rfl) ?_
      obtain ⟨v_20, ev_20, hf⟩ := ob hf
      refine g_get X I gfX14_18 (gR_in ev_20) dX14_offer_22 ?_
      obtain ⟨a_21, ea_21, hga_21⟩ := ob hf
      have hla_21 := hl
      have Ia_21 := I
      subst ea_21
      have hf := hga_21
      have hl := hla_21
      have I := Ia_21
      obtain ⟨v_22, ev_22, hf⟩ := ob hf
      refine g_getN hX X I gfX14_122 (gR_in ev_22) dX14_offer_25 ?_
      refine lv_iload_n hx hb dX14_offer_28 rfl (lv_at hl 3 rfl) ?_
      obtain ⟨a_23, ea_23, hga_23⟩ := ob hf
      have hla_23 := hl
      have Ia_23 := I
      subst ea_23
      have hf := hga_23
      have hl := hla_23
      have I := Ia_23
      obtain ⟨u_24, eu_24, hf⟩ := ob hf
      obtain ⟨v_25, ev_25, hf⟩ := ob hf
      refine cg_F (vw := (RJ2, TJ2, 3)) (ci := 21) (r := (some (va_rf v_25))) (σ' := σ) (rs := [va_rf v_25, .ref x0]) (rest := [.ref x0]) (As := [.int x3]) hX X I eu_24 rfl (mJ2_get hX ev_25) lvX14_49_J2 hdX14_49_J2 ⟨Nat.le_trans (Nat.le_of_ble_eq_true rfl) hR.1, Nat.le_trans (Nat.le_of_ble_eq_true rfl) hR.2⟩ rfl hl.1 rfl (Nat.le_of_ble_eq_true rfl) rfl dX14_offer_29 (fun H locs cells slots I => ?_)
      obtain ⟨a_27, ea_27, hga_27⟩ := ob hf
      have hla_27 := hl
      have Ia_27 := I
      subst ea_27
      have hf := hga_27
      have hl := hla_27
      have I := Ia_27
      obtain ⟨u_28, eu_28, hf⟩ := ob hf
      refine g_cast (vw := (RX12, TX12, 15)) X I rfl q2087 eu_28 dX14_offer_34 ?_
      refine lv_iload_n hx hb dX14_offer_37 rfl (lv_at hl 1 rfl) ?_
      obtain ⟨u_29, eu_29, hf⟩ := ob hf
      obtain ⟨⟨v_30, σ_31⟩, ev_30, hf⟩ := ob hf
      refine cg_V (vw := (RX14, TX14, 8)) (ci := 12) (r := (some (.int v_30))) (σ' := σ_31) (rs := [.int v_30]) (rest := []) (As := [.ref a_27, .int x1]) X I eu_29 rfl (mX14_find hX ev_30) lvX14_127 hdX14_127 ⟨Nat.le_trans (Nat.le_of_ble_eq_true rfl) hR.1, Nat.le_trans (Nat.le_of_ble_eq_true rfl) hR.2⟩ rfl hl.1 rfl (Nat.le_of_ble_eq_true rfl) rfl dX14_offer_38 (fun H locs cells slots I => ?_)
      refine lv_if_eq (tgt := 108) hx hb dX14_offer_41 (by decide) (fun c_41 => ?_) (fun c_41 => ?_)
      · have hf := ip c_41 hf
        exact wX14_offer_108 hX hR X N (fX14_offer_4 N E.2.2.2.1 n) ih x0 x1 x2 x3 σ_31 _ _ _ _ _ I (lv_sub hl [0, 1, 2, 3] rfl) hf
      · have hf := im c_41 hf
        refine lo_aload_n (x := x2) hx hb dX14_offer_44 rfl (lv_at hl 2 rfl) ?_
        have hga_32 := hf
        have hla_32 := hl
        have Ia_32 := I
        rcases x2 with _ | a_32
        · have hf := oc_n hga_32
          have hl := hla_32
          have I := Ia_32
          refine lv_ifnullN (tgt := 81) hx hb dX14_offer_45 (by decide) ?_
          exact wX14_offer_81 hX hR X N (fX14_offer_4 N E.2.2.2.1 n) ih x0 x1 x3 σ_31 _ _ _ _ _ I (lv_sub hl [0, 1, 3] rfl) hf
        · have hf := oc_s hga_32
          have hl := hla_32
          have I := Ia_32
          refine lv_ifnull hx hb dX14_offer_45 ?_
          refine lv_aload_n hx hb dX14_offer_48 rfl (lv_at hl 0 rfl) ?_
          obtain ⟨v_33, ev_33, hf⟩ := ob hf
          refine g_get X I gfX14_83 (gI_in ev_33) dX14_offer_49 ?_
          refine lv_aload_n hx hb dX14_offer_52 rfl (lv_at hl 2 rfl) ?_
          obtain ⟨v_34, ev_34, hf⟩ := ob hf
          refine g_getN hX X I gfX14_131 (gI_in ev_34) dX14_offer_53 ?_
          refine lv_icmp_lt (tgt := 81) hx hb dX14_offer_56 (by decide) (fun c_56 => ?_) (fun c_56 => ?_)
          · have hf := ip c_56 hf
            exact wX14_offer_81 hX hR X N (fX14_offer_4 N E.2.2.2.1 n) ih x0 x1 x3 σ_31 _ _ _ _ _ I (lv_sub hl [0, 1, 3] rfl) hf
          · have hf := im c_56 hf
            refine lv_aload_n hx hb dX14_offer_59 rfl (lv_at hl 0 rfl) ?_
            obtain ⟨v_35, ev_35, hf⟩ := ob hf
            refine g_get X I gfX14_83 (gI_in ev_35) dX14_offer_60 ?_
            refine lv_aload_n hx hb dX14_offer_63 rfl (lv_at hl 2 rfl) ?_
            obtain ⟨v_36, ev_36, hf⟩ := ob hf
            refine g_getN hX X I gfX14_131 (gI_in ev_36) dX14_offer_64 ?_
            refine lv_icmp_ne (tgt := 108) hx hb dX14_offer_67 (by decide) (fun c_67 => ?_) (fun c_67 => ?_)
            · have hf := im c_67 hf
              exact wX14_offer_108 hX hR X N (fX14_offer_4 N E.2.2.2.1 n) ih x0 x1 (some a_32) x3 σ_31 _ _ _ _ _ I (lv_sub hl [0, 1, 2, 3] rfl) hf
            · have hf := ip c_67 hf
              refine lv_aload_n hx hb dX14_offer_70 rfl (lv_at hl 0 rfl) ?_
              obtain ⟨v_37, ev_37, hf⟩ := ob hf
              refine g_get X I gfX14_86 (gI_in ev_37) dX14_offer_71 ?_
              refine lv_aload_n hx hb dX14_offer_74 rfl (lv_at hl 2 rfl) ?_
              obtain ⟨v_38, ev_38, hf⟩ := ob hf
              refine g_getN hX X I gfX14_134 (gI_in ev_38) dX14_offer_75 ?_
              refine lv_icmp_ge (tgt := 108) hx hb dX14_offer_78 (by decide) (fun c_78 => ?_) (fun c_78 => ?_)
              · have hf := ip c_78 hf
                exact wX14_offer_108 hX hR X N (fX14_offer_4 N E.2.2.2.1 n) ih x0 x1 (some a_32) x3 σ_31 _ _ _ _ _ I (lv_sub hl [0, 1, 2, 3] rfl) hf
              · have hf := im c_78 hf
                exact wX14_offer_81 hX hR X N (fX14_offer_4 N E.2.2.2.1 n) ih x0 x1 x3 σ_31 _ _ _ _ _ I (lv_sub hl [0, 1, 3] rfl) hf
theorem wX14_offer_0 {E : EV} {l : Launch} {p : Program} {e : Env} {s : State} {m : MethodId} {args : Array Value} {below : List Frame} {meth : Method} {c : Code} {R : Room} {res : ((Option Nat) × St)} (hX : XK E) (hR : 10 ≤ R.frames ∧ 247 ≤ R.locals) (X : MX E p s m args meth c cX14_offer 4 (some (.object "SharedTaxis$Offer")) RX14 "offer") (N : Nat) : ∀ (x0 : Nat) (x1 : Int32) (σ : St) (H : Heap) (locs : List Loc) (cells slots : Nat) (ls : Array Slot), WI E R s σ H locs cells slots → lv_has ls 4 [(0, .ref x0), (1, .int x1)] → fX14_offer N E.2.2.2.1 σ x0 x1 = some res → W p l e R s m args below meth c H locs cells slots (MQ below (Qd E R.cells R.slots (some (va_rf res.1)) res.2) args s R.cells R.slots (fr E)) (F0 m 0 ls []) := by
  intro x0 x1 σ H locs cells slots ls I hl hf
  obtain ⟨⟨hx, hb, hml, hown, hts⟩, -⟩ := id X
  unfold fX14_offer at hf
  refine lv_null hx hb dX14_offer_0 ?_
  refine lv_astore_nN (lv' := [(2, .null), (0, .ref x0), (1, .int x1)]) hx hb dX14_offer_1 rfl hl (by decide) rfl (fun ls hl => ?_)
  refine lv_iconst (v := 0) hx hb dX14_offer_2 (by decide) ?_
  refine lv_istore_n (lv' := [(3, .int (0 : Int32)), (2, .null), (0, .ref x0), (1, .int x1)]) hx hb dX14_offer_3 rfl hl (by decide) rfl (fun ls hl => ?_)
  exact wX14_offer_4 hX hR X N N x0 x1 none (0 : Int32) σ _ _ _ _ _ I (lv_sub hl [2, 3, 1, 0] rfl) hf
theorem mX14_offer {E : EV} {l : Launch} {N : Nat} {σ : St} {x0 : Nat} {x1 : Int32} {res : ((Option Nat) × St)} (hX : XK E) (hf : fX14_offer N E.2.2.2.1 σ x0 x1 = some res) : CM E l yX14_offer (ws_ yX14_offer cX14_offer 4 (some (.object "SharedTaxis$Offer"))) 10 247 [.ref x0, .int x1] σ (some (va_rf res.1)) res.2 := by
  refine CM.of hX.1 (by decide) rfl rfl (Nat.le_of_ble_eq_true rfl) ?_
  intro p e s m below meth c X I ls hl
  exact wX14_offer_0 hX ⟨Nat.le_refl _, Nat.le_refl _⟩ X N _ _ _ _ _ _ _ _ I hl hf
/-! SharedTaxis.ask(IIIII)I imp=True fuel=True kap=True rt=I thr=True -/
theorem noX1_149 : NO RX1 149 14 15 [.int 0, .int 0, .int 0, .int 0, .int 0, .int 0, .int 0, .int 0, .int 0, .int 0, .int 0, .int 0, .int 0, .int 0, .null] := ⟨RX16, TX16, tyX16, rfl, in_X16, tyX16_ok, by decide, q800, q1097, q153⟩
theorem lvX1_428 : GoodIn lw_all (ws_ yX16_init_2 cX16_init_2 9 none) ∧ Cond.initialized yX16_init_2.cls ∈ lw_all ∧ Cond.methodLink RX1 428 yX16_init_2 ∈ lw_all ∧ Cond.instanceMethod yX16_init_2 ∈ lw_all ∧ yX16_init_2.name = "<init>" := ⟨lw_meth q1103, q153, q2054, q1102, rfl⟩
theorem hdX1_428 : yX16_init_2.cls ≠ "java/lang/invoke/MethodHandle" ∧ yX16_init_2.cls ≠ "java/lang/invoke/VarHandle" ∧ (parseMethodDescriptor yX16_init_2.desc).map (fun d => d.parameters.length) = some 8 := by decide +kernel
theorem lvX1_431 : GoodIn lw_all (wsV RX1 431 RX1 yX1_beginOperation (ws_ yX1_beginOperation cX1_beginOperation 1 (some (.object "SharedTaxis$State")))) := lw_V q2055 q2057 qs28 q113 q2058
theorem hdX1_431 : yX1_beginOperation.cls = RX1 ∧ yX1_beginOperation.cls ≠ "java/lang/invoke/MethodHandle" ∧ yX1_beginOperation.cls ≠ "java/lang/invoke/VarHandle" ∧ (parseMethodDescriptor yX1_beginOperation.desc).map (fun d => d.parameters.length) = some 0 := by decide +kernel
theorem lvX1_434 : GoodIn lw_all (wsV RX1 434 RX14 yX14_offer (ws_ yX14_offer cX14_offer 4 (some (.object "SharedTaxis$Offer")))) := lw_V q2083 q2084 q2085 q150 q2086
theorem hdX1_434 : yX14_offer.cls = RX14 ∧ yX14_offer.cls ≠ "java/lang/invoke/MethodHandle" ∧ yX14_offer.cls ≠ "java/lang/invoke/VarHandle" ∧ (parseMethodDescriptor yX14_offer.desc).map (fun d => d.parameters.length) = some 1 := by decide +kernel
theorem pfX1_350 : ∀ q ∈ ([(14, 14)] : List (Nat × Nat)), PN RX1 350 (.object "SharedTaxis$Offer") q := List.forall_mem_cons.mpr ⟨⟨RX16, TX16, 15, _, tyX16, rfl, in_X16, by decide, q1151, tyX16_ok, nmX16, rfl, rfl⟩, fun _ h => by cases h⟩
theorem pfX1_313 : ∀ q ∈ ([(14, 8)] : List (Nat × Nat)), PN RX1 313 .int q := List.forall_mem_cons.mpr ⟨⟨RX16, TX16, 15, _, tyX16, rfl, in_X16, by decide, q1132, tyX16_ok, nmX16, rfl, rfl⟩, fun _ h => by cases h⟩
def fX1_ask_56 (N : Nat) (κ : Nat → Nat) (x0 : Nat) (x1 : Int32) (x2 : Int32) (x3 : Int32) (x4 : Int32) (x5 : Int32) (x6 : Int32) (y0 : Int32) (σ : St) : Option ((Int32 ⊕ Nat) × St) := (fX1_require σ y0).bind fun (v_1, σ_2) => se v_1 (fun v_3 => (gR σ_2 x0 [(0, 3)]).bind fun v_5 : Option Nat => (v_5).bind fun a_6 : Nat => (gR σ_2 a_6 [(1, 6)]).bind fun v_7 : Option Nat => (v_7).bind fun a_8 : Nat => (isC σ_2 a_8 21).bind fun u_9 : Unit => (fJ2_size σ_2 a_8).bind fun v_10 : Int32 => if v_10 = (24 : Int32) then some (.inl (-2 : Int32), σ_2) else (gR σ_2 x0 [(0, 3)]).bind fun v_12 : Option Nat => (v_12).bind fun a_13 : Nat => (gI σ_2 a_13 [(1, 4)]).bind fun v_14 : Int32 => lt (v_14 + x4) fun x8_15 : Int32 => (nH σ_2 15 (.inr (14, [.int 0, .int 0, .int 0, .int 0, .int 0, .int 0, .int 0, .int 0, .int 0, .int 0, .int 0, .int 0, .int 0, .int 0, .null]))).bind fun (q_16a, q_16s) => (gR q_16s x0 [(0, 3)]).bind fun v_17 : Option Nat => (v_17).bind fun a_18 : Nat => (gR q_16s a_18 [(1, 1)]).bind fun v_19 : Option Nat => (v_19).bind fun a_20 : Nat => (aI q_16s a_20 0 (0 : Int32)).bind fun v_21 : Int32 => (fX16_init_2 q_16s q_16a v_10 x1 x2 x3 x8_15 (x8_15 + v_21) x5 x6).bind fun σ_23 : St => (isC σ_23 x0 0).bind fun u_24 : Unit => (fX1_beginOperation N κ σ_23 x0).bind fun (v_25, σ_26) => (v_25).bind fun a_27 : Nat => (gR σ_26 a_27 [(1, 6)]).bind fun v_28 : Option Nat => (v_28).bind fun a_29 : Nat => (isC σ_26 a_29 21).bind fun u_30 : Unit => (fJ2_add κ σ_26 a_29 q_16a).bind fun (v_31, σ_32) => (nH σ_32 8 (.inr (12, [.null, .null, .null, .int 0, .int 0, .int 0, .int 0, .int 0]))).bind fun (q_33a, q_33s) => (gR q_33s x0 [(0, 3)]).bind fun v_34 : Option Nat => (v_34).bind fun a_35 : Nat => (fX14_init κ q_33s q_33a a_35).bind fun σ_37 : St => (isC σ_37 q_33a 12).bind fun u_38 : Unit => (fX14_offer N κ σ_37 q_33a v_10).bind fun (v_39, σ_40) => (pV σ_40 q_16a [(14, 14)] (va_rf v_39)).bind fun σ_41 : St => (gR σ_41 q_16a [(14, 14)]).bind fun v_42 : Option Nat => oc v_42 ((pV σ_41 q_16a [(14, 8)] (.int (4 : Int32))).bind fun σ_44 : St => some (.inl v_10, σ_44)) fun a_43 => (pV σ_41 q_16a [(14, 8)] (.int (0 : Int32))).bind fun σ_45 : St => some (.inl v_10, σ_45)) (fun q_4 => (isX σ_2 q_4).bind fun uq_4 : Unit => some (.inr q_4, σ_2))
def fX1_ask_55 (N : Nat) (κ : Nat → Nat) (x0 : Nat) (x1 : Int32) (x2 : Int32) (x3 : Int32) (x4 : Int32) (x5 : Int32) (x6 : Int32) (σ : St) : Option ((Int32 ⊕ Nat) × St) := fX1_ask_56 N κ x0 x1 x2 x3 x4 x5 x6 (0 : Int32) σ
def fX1_ask (N : Nat) (κ : Nat → Nat) (σ : St) (x0 : Nat) (x1 : Int32) (x2 : Int32) (x3 : Int32) (x4 : Int32) (x5 : Int32) : Option ((Int32 ⊕ Nat) × St) := (isC σ x0 0).bind fun u_46 : Unit => (fX1_minutes σ x0 x1 x2).bind fun (v_47, σ_48) => se v_47 (fun v_49 => if x1 = x2 then fX1_ask_55 N κ x0 x1 x2 x3 x4 x5 v_49 σ_48 else (fX1_inRange σ_48 (x3.toInt64) (1 : Int64) (6 : Int64)).bind fun v_51 : Int32 => if v_51 = 0 then fX1_ask_55 N κ x0 x1 x2 x3 x4 x5 v_49 σ_48 else (fX1_inRange σ_48 (x4.toInt64) (0 : Int64) (600 : Int64)).bind fun v_53 : Int32 => if v_53 = 0 then fX1_ask_55 N κ x0 x1 x2 x3 x4 x5 v_49 σ_48 else (fX1_inRange σ_48 (x5.toInt64) (0 : Int64) (200 : Int64)).bind fun v_55 : Int32 => if v_55 = 0 then fX1_ask_55 N κ x0 x1 x2 x3 x4 x5 v_49 σ_48 else fX1_ask_56 N κ x0 x1 x2 x3 x4 x5 v_49 (1 : Int32) σ_48) (fun q_50 => (isX σ_48 q_50).bind fun uq_50 : Unit => some (.inr q_50, σ_48))
theorem wX1_ask_56 {E : EV} {l : Launch} {p : Program} {e : Env} {s : State} {m : MethodId} {args : Array Value} {below : List Frame} {meth : Method} {c : Code} {R : Room} {res : ((Int32 ⊕ Nat) × St)} (hX : XK E) (hR : 11 ≤ R.frames ∧ 270 ≤ R.locals) (X : MX E p s m args meth c cX1_ask 10 (some .int) RX1 "ask") (XH : MH c []) (hS : l.stackTraces = false) (N : Nat) : ∀ (x0 : Nat) (x1 : Int32) (x2 : Int32) (x3 : Int32) (x4 : Int32) (x5 : Int32) (x6 : Int32) (y0 : Int32) (σ : St) (H : Heap) (locs : List Loc) (cells slots : Nat) (ls : Array Slot), WI E R s σ H locs cells slots → lv_has ls 10 [(0, .ref x0), (1, .int x1), (2, .int x2), (3, .int x3), (4, .int x4), (5, .int x5), (6, .int x6)] → fX1_ask_56 N E.2.2.2.1 x0 x1 x2 x3 x4 x5 x6 y0 σ = some res → W p l e R s m args below meth c H locs cells slots (vx_MQ below (QS E R.cells R.slots (sv (fun v => (some (.int v))) res.1) res.2) (XS E R.cells R.slots (sx res.1) res.2) args s R.cells R.slots (fr E)) (F0 m 56 ls [.int y0]) := by
  intro x0 x1 x2 x3 x4 x5 x6 y0 σ H locs cells slots ls I hl hf
  obtain ⟨⟨hx, hb, hml, hown, hts⟩, -⟩ := id X
  unfold fX1_ask_56 at hf
  obtain ⟨⟨v_1, σ_2⟩, ev_1, hf⟩ := ob hf
  have hgv_1 := hf
  rcases v_1 with v_3 | q_4
  · have hf := se_l hgv_1
    refine cx_ret (r := none) (rs := []) I (xr_S (σ' := σ_2) (rest := []) (As := [.int y0]) X I (mX1_require hX hS ev_1) lvX1_158 hdX1_158 ⟨Nat.le_trans (Nat.le_of_ble_eq_true rfl) hR.1, Nat.le_trans (Nat.le_of_ble_eq_true rfl) hR.2⟩ rfl hl.1 rfl (Nat.le_of_ble_eq_true rfl) dX1_ask_56) rfl (fun H locs cells slots I => ?_)
    refine lv_aload_n hx hb dX1_ask_59 rfl (lv_at hl 0 rfl) ?_
    obtain ⟨v_5, ev_5, hf⟩ := ob hf
    refine g_get X I gfX1_87 (gR_in ev_5) dX1_ask_60 ?_
    obtain ⟨a_6, ea_6, hga_6⟩ := ob hf
    have hla_6 := hl
    have Ia_6 := I
    subst ea_6
    have hf := hga_6
    have hl := hla_6
    have I := Ia_6
    obtain ⟨v_7, ev_7, hf⟩ := ob hf
    refine g_getN hX X I gfX1_146 (gR_in ev_7) dX1_ask_63 ?_
    obtain ⟨a_8, ea_8, hga_8⟩ := ob hf
    have hla_8 := hl
    have Ia_8 := I
    subst ea_8
    have hf := hga_8
    have hl := hla_8
    have I := Ia_8
    obtain ⟨u_9, eu_9, hf⟩ := ob hf
    obtain ⟨v_10, ev_10, hf⟩ := ob hf
    refine cg_F (vw := (RJ2, TJ2, 3)) (ci := 21) (r := (some (.int v_10))) (σ' := σ_2) (rs := [.int v_10]) (rest := []) (As := []) hX X I eu_9 rfl (mJ2_size hX ev_10) lvX1_137_J2 hdX1_137_J2 ⟨Nat.le_trans (Nat.le_of_ble_eq_true rfl) hR.1, Nat.le_trans (Nat.le_of_ble_eq_true rfl) hR.2⟩ rfl hl.1 rfl (Nat.le_of_ble_eq_true rfl) rfl dX1_ask_66 (fun H locs cells slots I => ?_)
    refine lv_istore (lv' := [(7, .int v_10), (0, .ref x0), (1, .int x1), (2, .int x2), (3, .int x3), (4, .int x4), (5, .int x5), (6, .int x6)]) hx hb dX1_ask_71 hl (by decide) rfl (fun ls hl => ?_)
    refine lv_iload hx hb dX1_ask_73 (lv_at hl 0 rfl) ?_
    refine lv_bipush (v := 24) hx hb dX1_ask_75 (by decide) ?_
    refine lv_icmp_ne (tgt := 83) hx hb dX1_ask_77 (by decide) (fun c_77 => ?_) (fun c_77 => ?_)
    · have hf := im c_77 hf
      refine lv_aload_n hx hb dX1_ask_83 rfl (lv_at hl 1 rfl) ?_
      obtain ⟨v_12, ev_12, hf⟩ := ob hf
      refine g_get X I gfX1_87 (gR_in ev_12) dX1_ask_84 ?_
      obtain ⟨a_13, ea_13, hga_13⟩ := ob hf
      have hla_13 := hl
      have Ia_13 := I
      subst ea_13
      have hf := hga_13
      have hl := hla_13
      have I := Ia_13
      obtain ⟨v_14, ev_14, hf⟩ := ob hf
      refine g_getN hX X I gfX1_209 (gI_in ev_14) dX1_ask_87 ?_
      refine lv_iload hx hb dX1_ask_90 (lv_at hl 5 rfl) ?_
      refine lv_iadd hx hb dX1_ask_92 ?_
      obtain ⟨x8_15, ex8_15, hf⟩ := ol hf
      refine nm_i ex8_15 ?_
      refine lv_istore (lv' := [(8, .int x8_15), (7, .int v_10), (0, .ref x0), (1, .int x1), (2, .int x2), (3, .int x3), (4, .int x4), (5, .int x5), (6, .int x6)]) hx hb dX1_ask_93 hl (by decide) rfl (fun ls hl => ?_)
      obtain ⟨⟨q_16a, q_16s⟩, eq_16, hf⟩ := ob hf
      refine g_new X I noX1_149 eq_16 dX1_ask_95 (fun H locs cells slots I => ?_)
      refine lv_dup hx hb dX1_ask_98 rfl ?_
      refine lv_iload hx hb dX1_ask_99 (lv_at hl 1 rfl) ?_
      refine lv_iload_n hx hb dX1_ask_101 rfl (lv_at hl 3 rfl) ?_
      refine lv_iload_n hx hb dX1_ask_102 rfl (lv_at hl 4 rfl) ?_
      refine lv_iload_n hx hb dX1_ask_103 rfl (lv_at hl 5 rfl) ?_
      refine lv_iload hx hb dX1_ask_104 (lv_at hl 0 rfl) ?_
      refine lv_iload hx hb dX1_ask_106 (lv_at hl 0 rfl) ?_
      refine lv_aload_n hx hb dX1_ask_108 rfl (lv_at hl 2 rfl) ?_
      obtain ⟨v_17, ev_17, hf⟩ := ob hf
      refine g_get X I gfX1_87 (gR_in ev_17) dX1_ask_109 ?_
      obtain ⟨a_18, ea_18, hga_18⟩ := ob hf
      have hla_18 := hl
      have Ia_18 := I
      subst ea_18
      have hf := hga_18
      have hl := hla_18
      have I := Ia_18
      obtain ⟨v_19, ev_19, hf⟩ := ob hf
      refine g_getN hX X I gfX1_227 (gR_in ev_19) dX1_ask_112 ?_
      refine lv_iconst (v := 0) hx hb dX1_ask_115 (by decide) ?_
      obtain ⟨a_20, ea_20, hga_20⟩ := ob hf
      have hla_20 := hl
      have Ia_20 := I
      subst ea_20
      have hf := hga_20
      have hl := hla_20
      have I := Ia_20
      obtain ⟨v_21, ev_21, hf⟩ := ob hf
      refine g_iald X I ev_21 dX1_ask_116 ?_
      refine lv_iadd hx hb dX1_ask_117 ?_
      refine lv_iload hx hb dX1_ask_118 (lv_at hl 7 rfl) ?_
      refine lv_iload hx hb dX1_ask_120 (lv_at hl 8 rfl) ?_
      obtain ⟨σ_23, ev_22, hf⟩ := ob hf
      refine cm_I (σ' := σ_23) (rs := [.ref q_16a]) (rest := [.ref q_16a]) (As := [.int v_10, .int x1, .int x2, .int x3, .int x8_15, .int (x8_15 + v_21), .int x5, .int x6]) X I (mX16_init_2 hX ev_22) lvX1_428 hdX1_428 ⟨Nat.le_trans (Nat.le_of_ble_eq_true rfl) hR.1, Nat.le_trans (Nat.le_of_ble_eq_true rfl) hR.2⟩ rfl hl.1 rfl (Nat.le_of_ble_eq_true rfl) rfl dX1_ask_122 (fun H locs cells slots I => ?_)
      refine lv_astore (lv' := [(9, .ref q_16a), (8, .int x8_15), (7, .int v_10), (0, .ref x0), (1, .int x1), (2, .int x2), (3, .int x3), (4, .int x4), (5, .int x5), (6, .int x6)]) hx hb dX1_ask_125 hl (by decide) rfl (fun ls hl => ?_)
      refine lv_aload_n hx hb dX1_ask_127 rfl (lv_at hl 3 rfl) ?_
      obtain ⟨u_24, eu_24, hf⟩ := ob hf
      obtain ⟨⟨v_25, σ_26⟩, ev_25, hf⟩ := ob hf
      refine cg_V (vw := (RX1, TX1, 7)) (ci := 0) (r := (some (va_rf v_25))) (σ' := σ_26) (rs := [va_rf v_25]) (rest := []) (As := []) X I eu_24 rfl (mX1_beginOperation hX ev_25) lvX1_431 hdX1_431 ⟨Nat.le_trans (Nat.le_of_ble_eq_true rfl) hR.1, Nat.le_trans (Nat.le_of_ble_eq_true rfl) hR.2⟩ rfl hl.1 rfl (Nat.le_of_ble_eq_true rfl) rfl dX1_ask_128 (fun H locs cells slots I => ?_)
      obtain ⟨a_27, ea_27, hga_27⟩ := ob hf
      have hla_27 := hl
      have Ia_27 := I
      subst ea_27
      have hf := hga_27
      have hl := hla_27
      have I := Ia_27
      obtain ⟨v_28, ev_28, hf⟩ := ob hf
      refine g_getN hX X I gfX1_146 (gR_in ev_28) dX1_ask_131 ?_
      refine lv_aload hx hb dX1_ask_134 (lv_at hl 0 rfl) ?_
      obtain ⟨a_29, ea_29, hga_29⟩ := ob hf
      have hla_29 := hl
      have Ia_29 := I
      subst ea_29
      have hf := hga_29
      have hl := hla_29
      have I := Ia_29
      obtain ⟨u_30, eu_30, hf⟩ := ob hf
      obtain ⟨⟨v_31, σ_32⟩, ev_31, hf⟩ := ob hf
      refine cg_F (vw := (RJ2, TJ2, 3)) (ci := 21) (r := (some (.int v_31))) (σ' := σ_32) (rs := [.int v_31]) (rest := []) (As := [.ref q_16a]) hX X I eu_30 rfl (mJ2_add hX ev_31) lvX1_398_J2 hdX1_398_J2 ⟨Nat.le_trans (Nat.le_of_ble_eq_true rfl) hR.1, Nat.le_trans (Nat.le_of_ble_eq_true rfl) hR.2⟩ rfl hl.1 rfl (Nat.le_of_ble_eq_true rfl) rfl dX1_ask_136 (fun H locs cells slots I => ?_)
      refine lv_pop hx hb dX1_ask_141 rfl ?_
      refine lv_aload hx hb dX1_ask_142 (lv_at hl 0 rfl) ?_
      obtain ⟨⟨q_33a, q_33s⟩, eq_33, hf⟩ := ob hf
      refine g_new X I noX1_358 eq_33 dX1_ask_144 (fun H locs cells slots I => ?_)
      refine lv_dup hx hb dX1_ask_147 rfl ?_
      refine lv_aload_n hx hb dX1_ask_148 rfl (lv_at hl 3 rfl) ?_
      obtain ⟨v_34, ev_34, hf⟩ := ob hf
      refine g_get X I gfX1_87 (gR_in ev_34) dX1_ask_149 ?_
      obtain ⟨a_35, ea_35, hga_35⟩ := ob hf
      have hla_35 := hl
      have Ia_35 := I
      subst ea_35
      have hf := hga_35
      have hl := hla_35
      have I := Ia_35
      obtain ⟨σ_37, ev_36, hf⟩ := ob hf
      refine cm_I (σ' := σ_37) (rs := [.ref q_33a, .ref q_16a]) (rest := [.ref q_33a, .ref q_16a]) (As := [.ref a_35]) X I (mX14_init hX ev_36) lvX1_360 hdX1_360 ⟨Nat.le_trans (Nat.le_of_ble_eq_true rfl) hR.1, Nat.le_trans (Nat.le_of_ble_eq_true rfl) hR.2⟩ rfl hl.1 rfl (Nat.le_of_ble_eq_true rfl) rfl dX1_ask_152 (fun H locs cells slots I => ?_)
      refine lv_iload hx hb dX1_ask_155 (lv_at hl 2 rfl) ?_
      obtain ⟨u_38, eu_38, hf⟩ := ob hf
      obtain ⟨⟨v_39, σ_40⟩, ev_39, hf⟩ := ob hf
      refine cg_V (vw := (RX14, TX14, 8)) (ci := 12) (r := (some (va_rf v_39))) (σ' := σ_40) (rs := [va_rf v_39, .ref q_16a]) (rest := [.ref q_16a]) (As := [.int v_10]) X I eu_38 rfl (mX14_offer hX ev_39) lvX1_434 hdX1_434 ⟨Nat.le_trans (Nat.le_of_ble_eq_true rfl) hR.1, Nat.le_trans (Nat.le_of_ble_eq_true rfl) hR.2⟩ rfl hl.1 rfl (Nat.le_of_ble_eq_true rfl) rfl dX1_ask_157 (fun H locs cells slots I => ?_)
      obtain ⟨σ_41, eσ_41, hf⟩ := ob hf
      refine g_putN hX X I pfX1_350 (rf_nar _ _) (rf_fit _ _) eσ_41 dX1_ask_160 (fun H locs I => ?_)
      refine lv_aload hx hb dX1_ask_163 (lv_at hl 0 rfl) ?_
      refine lv_aload hx hb dX1_ask_165 (lv_at hl 0 rfl) ?_
      obtain ⟨v_42, ev_42, hf⟩ := ob hf
      refine g_getN hX X I gfX1_350 (gR_in ev_42) dX1_ask_167 ?_
      have hga_43 := hf
      have hla_43 := hl
      have Ia_43 := I
      rcases v_42 with _ | a_43
      · have hf := oc_n hga_43
        have hl := hla_43
        have I := Ia_43
        refine lv_ifnonnullN hx hb dX1_ask_170 ?_
        refine lv_iconst (v := 4) hx hb dX1_ask_173 (by decide) ?_
        refine lv_goto (tgt := 178) hx hb dX1_ask_174 (by decide) ?_
        obtain ⟨σ_44, eσ_44, hf⟩ := ob hf
        refine g_putN hX X I pfX1_313 rfl rfl eσ_44 dX1_ask_178 (fun H locs I => ?_)
        refine lv_iload hx hb dX1_ask_181 (lv_at hl 2 rfl) ?_
        cases os hf
        exact x_ret (r_iret X I dX1_ask_183)
      · have hf := oc_s hga_43
        have hl := hla_43
        have I := Ia_43
        refine lv_ifnonnull (tgt := 177) hx hb dX1_ask_170 (by decide) ?_
        refine lv_iconst (v := 0) hx hb dX1_ask_177 (by decide) ?_
        obtain ⟨σ_45, eσ_45, hf⟩ := ob hf
        refine g_putN hX X I pfX1_313 rfl rfl eσ_45 dX1_ask_178 (fun H locs I => ?_)
        refine lv_iload hx hb dX1_ask_181 (lv_at hl 2 rfl) ?_
        cases os hf
        exact x_ret (r_iret X I dX1_ask_183)
    · have hf := ip c_77 hf
      refine lv_bipush (v := (-2)) hx hb dX1_ask_80 (by decide) ?_
      cases os hf
      exact x_ret (r_iret X I dX1_ask_82)
  · have hf := se_r hgv_1
    obtain ⟨uq_4, eq_4, hf⟩ := ob hf
    cases os hf
    refine cx_thr I (xr_S (σ' := σ_2) (rest := []) (As := [.int y0]) X I (mX1_require hX hS ev_1) lvX1_158 hdX1_158 ⟨Nat.le_trans (Nat.le_of_ble_eq_true rfl) hR.1, Nat.le_trans (Nat.le_of_ble_eq_true rfl) hR.2⟩ rfl hl.1 rfl (Nat.le_of_ble_eq_true rfl) dX1_ask_56) (fun H locs cells slots I => ?_)
    exact x_out X XH rfl I eq_4
theorem wX1_ask_55 {E : EV} {l : Launch} {p : Program} {e : Env} {s : State} {m : MethodId} {args : Array Value} {below : List Frame} {meth : Method} {c : Code} {R : Room} {res : ((Int32 ⊕ Nat) × St)} (hX : XK E) (hR : 11 ≤ R.frames ∧ 270 ≤ R.locals) (X : MX E p s m args meth c cX1_ask 10 (some .int) RX1 "ask") (XH : MH c []) (hS : l.stackTraces = false) (N : Nat) : ∀ (x0 : Nat) (x1 : Int32) (x2 : Int32) (x3 : Int32) (x4 : Int32) (x5 : Int32) (x6 : Int32) (σ : St) (H : Heap) (locs : List Loc) (cells slots : Nat) (ls : Array Slot), WI E R s σ H locs cells slots → lv_has ls 10 [(0, .ref x0), (1, .int x1), (2, .int x2), (3, .int x3), (4, .int x4), (5, .int x5), (6, .int x6)] → fX1_ask_55 N E.2.2.2.1 x0 x1 x2 x3 x4 x5 x6 σ = some res → W p l e R s m args below meth c H locs cells slots (vx_MQ below (QS E R.cells R.slots (sv (fun v => (some (.int v))) res.1) res.2) (XS E R.cells R.slots (sx res.1) res.2) args s R.cells R.slots (fr E)) (F0 m 55 ls []) := by
  intro x0 x1 x2 x3 x4 x5 x6 σ H locs cells slots ls I hl hf
  obtain ⟨⟨hx, hb, hml, hown, hts⟩, -⟩ := id X
  unfold fX1_ask_55 at hf
  refine lv_iconst (v := 0) hx hb dX1_ask_55 (by decide) ?_
  exact wX1_ask_56 hX hR X XH hS N x0 x1 x2 x3 x4 x5 x6 (0 : Int32) σ _ _ _ _ _ I (lv_sub hl [0, 1, 2, 3, 4, 5, 6] rfl) hf
theorem wX1_ask_0 {E : EV} {l : Launch} {p : Program} {e : Env} {s : State} {m : MethodId} {args : Array Value} {below : List Frame} {meth : Method} {c : Code} {R : Room} {res : ((Int32 ⊕ Nat) × St)} (hX : XK E) (hR : 11 ≤ R.frames ∧ 270 ≤ R.locals) (X : MX E p s m args meth c cX1_ask 10 (some .int) RX1 "ask") (XH : MH c []) (hS : l.stackTraces = false) (N : Nat) : ∀ (x0 : Nat) (x1 : Int32) (x2 : Int32) (x3 : Int32) (x4 : Int32) (x5 : Int32) (σ : St) (H : Heap) (locs : List Loc) (cells slots : Nat) (ls : Array Slot), WI E R s σ H locs cells slots → lv_has ls 10 [(0, .ref x0), (1, .int x1), (2, .int x2), (3, .int x3), (4, .int x4), (5, .int x5)] → fX1_ask N E.2.2.2.1 σ x0 x1 x2 x3 x4 x5 = some res → W p l e R s m args below meth c H locs cells slots (vx_MQ below (QS E R.cells R.slots (sv (fun v => (some (.int v))) res.1) res.2) (XS E R.cells R.slots (sx res.1) res.2) args s R.cells R.slots (fr E)) (F0 m 0 ls []) := by
  intro x0 x1 x2 x3 x4 x5 σ H locs cells slots ls I hl hf
  obtain ⟨⟨hx, hb, hml, hown, hts⟩, -⟩ := id X
  unfold fX1_ask at hf
  refine lv_aload_n hx hb dX1_ask_0 rfl (lv_at hl 0 rfl) ?_
  refine lv_iload_n hx hb dX1_ask_1 rfl (lv_at hl 1 rfl) ?_
  refine lv_iload_n hx hb dX1_ask_2 rfl (lv_at hl 2 rfl) ?_
  obtain ⟨u_46, eu_46, hf⟩ := ob hf
  obtain ⟨⟨v_47, σ_48⟩, ev_47, hf⟩ := ob hf
  have hgv_47 := hf
  rcases v_47 with v_49 | q_50
  · have hf := se_l hgv_47
    refine cx_ret (r := (some (.int v_49))) (rs := [.int v_49]) I (xr_V (vw := (RX1, TX1, 7)) (ci := 0) (σ' := σ_48) (rest := []) (As := [.int x1, .int x2]) X I eu_46 rfl (mX1_minutes hX hS ev_47) lvX1_408 hdX1_408 ⟨Nat.le_trans (Nat.le_of_ble_eq_true rfl) hR.1, Nat.le_trans (Nat.le_of_ble_eq_true rfl) hR.2⟩ rfl hl.1 rfl (Nat.le_of_ble_eq_true rfl) dX1_ask_3) rfl (fun H locs cells slots I => ?_)
    refine lv_istore (lv' := [(6, .int v_49), (0, .ref x0), (1, .int x1), (2, .int x2), (3, .int x3), (4, .int x4), (5, .int x5)]) hx hb dX1_ask_6 hl (by decide) rfl (fun ls hl => ?_)
    refine lv_iload_n hx hb dX1_ask_8 rfl (lv_at hl 2 rfl) ?_
    refine lv_iload_n hx hb dX1_ask_9 rfl (lv_at hl 3 rfl) ?_
    refine lv_icmp_eq (tgt := 55) hx hb dX1_ask_10 (by decide) (fun c_10 => ?_) (fun c_10 => ?_)
    · have hf := ip c_10 hf
      exact wX1_ask_55 hX hR X XH hS N x0 x1 x2 x3 x4 x5 v_49 σ_48 _ _ _ _ _ I (lv_sub hl [1, 2, 3, 4, 5, 6, 0] rfl) hf
    · have hf := im c_10 hf
      refine lv_iload_n hx hb dX1_ask_13 rfl (lv_at hl 4 rfl) ?_
      refine lv_i2l hx hb dX1_ask_14 rfl ?_
      refine lv_lconst (v := 1) hx hb dX1_ask_15 (by decide) ?_
      refine lv_ldc2 (v := 6) hx hb hown (hts _ q2044) dX1_ask_16 ?_
      obtain ⟨v_51, ev_51, hf⟩ := ob hf
      refine cg_S (r := (some (.int v_51))) (σ' := σ_48) (rs := [.int v_51]) (rest := []) (As := [.long (x3.toInt64), .long (1 : Int64), .long (6 : Int64)]) X I (mX1_inRange hX ev_51) lvX1_125 hdX1_125 ⟨Nat.le_trans (Nat.le_of_ble_eq_true rfl) hR.1, Nat.le_trans (Nat.le_of_ble_eq_true rfl) hR.2⟩ rfl hl.1 rfl (Nat.le_of_ble_eq_true rfl) rfl dX1_ask_19 (fun H locs cells slots I => ?_)
      refine lv_if_eq (tgt := 55) hx hb dX1_ask_22 (by decide) (fun c_22 => ?_) (fun c_22 => ?_)
      · have hf := ip c_22 hf
        exact wX1_ask_55 hX hR X XH hS N x0 x1 x2 x3 x4 x5 v_49 σ_48 _ _ _ _ _ I (lv_sub hl [1, 2, 3, 4, 5, 6, 0] rfl) hf
      · have hf := im c_22 hf
        refine lv_iload hx hb dX1_ask_25 (lv_at hl 5 rfl) ?_
        refine lv_i2l hx hb dX1_ask_27 rfl ?_
        refine lv_lconst (v := 0) hx hb dX1_ask_28 (by decide) ?_
        refine lv_ldc2 (v := 600) hx hb hown (hts _ q2052) dX1_ask_29 ?_
        obtain ⟨v_53, ev_53, hf⟩ := ob hf
        refine cg_S (r := (some (.int v_53))) (σ' := σ_48) (rs := [.int v_53]) (rest := []) (As := [.long (x4.toInt64), .long (0 : Int64), .long (600 : Int64)]) X I (mX1_inRange hX ev_53) lvX1_125 hdX1_125 ⟨Nat.le_trans (Nat.le_of_ble_eq_true rfl) hR.1, Nat.le_trans (Nat.le_of_ble_eq_true rfl) hR.2⟩ rfl hl.1 rfl (Nat.le_of_ble_eq_true rfl) rfl dX1_ask_32 (fun H locs cells slots I => ?_)
        refine lv_if_eq (tgt := 55) hx hb dX1_ask_35 (by decide) (fun c_35 => ?_) (fun c_35 => ?_)
        · have hf := ip c_35 hf
          exact wX1_ask_55 hX hR X XH hS N x0 x1 x2 x3 x4 x5 v_49 σ_48 _ _ _ _ _ I (lv_sub hl [1, 2, 3, 4, 5, 6, 0] rfl) hf
        · have hf := im c_35 hf
          refine lv_iload hx hb dX1_ask_38 (lv_at hl 6 rfl) ?_
          refine lv_i2l hx hb dX1_ask_40 rfl ?_
          refine lv_lconst (v := 0) hx hb dX1_ask_41 (by decide) ?_
          refine lv_ldc2 (v := 200) hx hb hown (hts _ q2053) dX1_ask_42 ?_
          obtain ⟨v_55, ev_55, hf⟩ := ob hf
          refine cg_S (r := (some (.int v_55))) (σ' := σ_48) (rs := [.int v_55]) (rest := []) (As := [.long (x5.toInt64), .long (0 : Int64), .long (200 : Int64)]) X I (mX1_inRange hX ev_55) lvX1_125 hdX1_125 ⟨Nat.le_trans (Nat.le_of_ble_eq_true rfl) hR.1, Nat.le_trans (Nat.le_of_ble_eq_true rfl) hR.2⟩ rfl hl.1 rfl (Nat.le_of_ble_eq_true rfl) rfl dX1_ask_45 (fun H locs cells slots I => ?_)
          refine lv_if_eq (tgt := 55) hx hb dX1_ask_48 (by decide) (fun c_48 => ?_) (fun c_48 => ?_)
          · have hf := ip c_48 hf
            exact wX1_ask_55 hX hR X XH hS N x0 x1 x2 x3 x4 x5 v_49 σ_48 _ _ _ _ _ I (lv_sub hl [1, 2, 3, 4, 5, 6, 0] rfl) hf
          · have hf := im c_48 hf
            refine lv_iconst (v := 1) hx hb dX1_ask_51 (by decide) ?_
            refine lv_goto (tgt := 56) hx hb dX1_ask_52 (by decide) ?_
            exact wX1_ask_56 hX hR X XH hS N x0 x1 x2 x3 x4 x5 v_49 (1 : Int32) σ_48 _ _ _ _ _ I (lv_sub hl [1, 2, 3, 4, 5, 6, 0] rfl) hf
  · have hf := se_r hgv_47
    obtain ⟨uq_50, eq_50, hf⟩ := ob hf
    cases os hf
    refine cx_thr I (xr_V (vw := (RX1, TX1, 7)) (ci := 0) (σ' := σ_48) (rest := []) (As := [.int x1, .int x2]) X I eu_46 rfl (mX1_minutes hX hS ev_47) lvX1_408 hdX1_408 ⟨Nat.le_trans (Nat.le_of_ble_eq_true rfl) hR.1, Nat.le_trans (Nat.le_of_ble_eq_true rfl) hR.2⟩ rfl hl.1 rfl (Nat.le_of_ble_eq_true rfl) dX1_ask_3) (fun H locs cells slots I => ?_)
    exact x_out X XH rfl I eq_50
theorem mX1_ask {E : EV} {l : Launch} {N : Nat} {σ : St} {x0 : Nat} {x1 : Int32} {x2 : Int32} {x3 : Int32} {x4 : Int32} {x5 : Int32} {res : ((Int32 ⊕ Nat) × St)} (hX : XK E) (hS : l.stackTraces = false) (hf : fX1_ask N E.2.2.2.1 σ x0 x1 x2 x3 x4 x5 = some res) : CX E l yX1_ask (ws_ yX1_ask cX1_ask 10 (some .int)) 11 270 [.ref x0, .int x1, .int x2, .int x3, .int x4, .int x5] σ (sv (fun v => (some (.int v))) res.1) (sx res.1) res.2 := by
  refine CX.of hX.1 (by decide) rfl rfl (Nat.le_of_ble_eq_true rfl) ?_
  intro p e s m below meth c X XH I ls hl
  exact wX1_ask_0 hX ⟨Nat.le_refl _, Nat.le_refl _⟩ X XH hS N _ _ _ _ _ _ _ _ _ _ _ _ I hl hf
/-! SharedTaxisLaw.ask(LSharedTaxis;IIIII[J)I imp=True fuel=True kap=True rt=I thr=False -/
theorem lvX0_62 : GoodIn lw_all (wsV RX0 62 RX1 yX1_ask (ws_ yX1_ask cX1_ask 10 (some .int))) := lw_V q2048 q2049 q2050 q113 q2051
theorem hdX0_62 : yX1_ask.cls = RX1 ∧ yX1_ask.cls ≠ "java/lang/invoke/MethodHandle" ∧ yX1_ask.cls ≠ "java/lang/invoke/VarHandle" ∧ (parseMethodDescriptor yX1_ask.desc).map (fun d => d.parameters.length) = some 5 := by decide +kernel
def fX0_ask (N : Nat) (κ : Nat → Nat) (σ : St) (x0 : Nat) (x1 : Int32) (x2 : Int32) (x3 : Int32) (x4 : Int32) (x5 : Int32) (x6 : Nat) : Option (Int32 × St) := (isC σ x0 0).bind fun u_1 : Unit => (fX1_ask N κ σ x0 x1 x2 x3 x4 x5).bind fun (v_2, σ_3) => se v_2 (fun v_4 => (sJ σ_3 x6 (0 : Int32) (v_4.toInt64)).bind fun σ_6 : St => some ((0 : Int32), σ_6)) (fun q_5 => (clsX σ_3 q_5).bind fun c_7 : Nat => if c_7 = 34 then some ((1 : Int32), σ_3) else if c_7 = 35 then some ((2 : Int32), σ_3) else none)
theorem wX0_ask_0 {E : EV} {l : Launch} {p : Program} {e : Env} {s : State} {m : MethodId} {args : Array Value} {below : List Frame} {meth : Method} {c : Code} {R : Room} {res : (Int32 × St)} (hX : XK E) (hR : 12 ≤ R.frames ∧ 299 ≤ R.locals) (X : MX E p s m args meth c cX0_ask 8 (some .int) RX0 "ask") (XH : MH c [(0, 16, 19, 18), (0, 16, 23, 13)]) (hS : l.stackTraces = false) (N : Nat) : ∀ (x0 : Nat) (x1 : Int32) (x2 : Int32) (x3 : Int32) (x4 : Int32) (x5 : Int32) (x6 : Nat) (σ : St) (H : Heap) (locs : List Loc) (cells slots : Nat) (ls : Array Slot), WI E R s σ H locs cells slots → lv_has ls 8 [(0, .ref x0), (1, .int x1), (2, .int x2), (3, .int x3), (4, .int x4), (5, .int x5), (6, .ref x6)] → fX0_ask N E.2.2.2.1 σ x0 x1 x2 x3 x4 x5 x6 = some res → W p l e R s m args below meth c H locs cells slots (vx_MQ below (QS E R.cells R.slots (some (some (.int res.1))) res.2) (XS E R.cells R.slots none res.2) args s R.cells R.slots (fr E)) (F0 m 0 ls []) := by
  intro x0 x1 x2 x3 x4 x5 x6 σ H locs cells slots ls I hl hf
  obtain ⟨⟨hx, hb, hml, hown, hts⟩, -⟩ := id X
  unfold fX0_ask at hf
  refine lv_aload hx hb dX0_ask_0 (lv_at hl 6 rfl) ?_
  refine lv_iconst (v := 0) hx hb dX0_ask_2 (by decide) ?_
  refine lv_aload_n hx hb dX0_ask_3 rfl (lv_at hl 0 rfl) ?_
  refine lv_iload_n hx hb dX0_ask_4 rfl (lv_at hl 1 rfl) ?_
  refine lv_iload_n hx hb dX0_ask_5 rfl (lv_at hl 2 rfl) ?_
  refine lv_iload_n hx hb dX0_ask_6 rfl (lv_at hl 3 rfl) ?_
  refine lv_iload hx hb dX0_ask_7 (lv_at hl 4 rfl) ?_
  refine lv_iload hx hb dX0_ask_9 (lv_at hl 5 rfl) ?_
  obtain ⟨u_1, eu_1, hf⟩ := ob hf
  obtain ⟨⟨v_2, σ_3⟩, ev_2, hf⟩ := ob hf
  have hgv_2 := hf
  rcases v_2 with v_4 | q_5
  · have hf := se_l hgv_2
    refine cx_ret (r := (some (.int v_4))) (rs := [.int v_4, .int (0 : Int32), .ref x6]) I (xr_V (vw := (RX1, TX1, 7)) (ci := 0) (σ' := σ_3) (rest := [.int (0 : Int32), .ref x6]) (As := [.int x1, .int x2, .int x3, .int x4, .int x5]) X I eu_1 rfl (mX1_ask hX hS ev_2) lvX0_62 hdX0_62 ⟨Nat.le_trans (Nat.le_of_ble_eq_true rfl) hR.1, Nat.le_trans (Nat.le_of_ble_eq_true rfl) hR.2⟩ rfl hl.1 rfl (Nat.le_of_ble_eq_true rfl) dX0_ask_11) rfl (fun H locs cells slots I => ?_)
    refine lv_i2l hx hb dX0_ask_14 rfl ?_
    obtain ⟨σ_6, eσ_6, hf⟩ := ob hf
    refine g_last X I eσ_6 dX0_ask_15 (fun H locs I => ?_)
    refine lv_goto (tgt := 27) hx hb dX0_ask_16 (by decide) ?_
    refine lv_iconst (v := 0) hx hb dX0_ask_27 (by decide) ?_
    cases os hf
    exact x_ret (r_iret X I dX0_ask_28)
  · have hf := se_r hgv_2
    obtain ⟨c_7, ec_7, hf⟩ := ob hf
    refine cx_thr I (xr_V (vw := (RX1, TX1, 7)) (ci := 0) (σ' := σ_3) (rest := [.int (0 : Int32), .ref x6]) (As := [.int x1, .int x2, .int x3, .int x4, .int x5]) X I eu_1 rfl (mX1_ask hX hS ev_2) lvX0_62 hdX0_62 ⟨Nat.le_trans (Nat.le_of_ble_eq_true rfl) hR.1, Nat.le_trans (Nat.le_of_ble_eq_true rfl) hR.2⟩ rfl hl.1 rfl (Nat.le_of_ble_eq_true rfl) dX0_ask_11) (fun H locs cells slots I => ?_)
    by_cases cc_7_E22 : c_7 = 34
    · have hf := ip cc_7_E22 hf
      refine x_catch (vw := (RJ22, TJ22, 0)) hX X XH I (cc_7_E22 ▸ ec_7) rfl ((tableOf [(0, 16, 19, 18), (0, 16, 23, 13)]).take 0) _ _ rfl (fun z hz => nomatch hz) rfl (by decide) q1558 q417 ?_
      refine lv_astore (lv' := [(7, .ref q_5), (0, .ref x0), (1, .int x1), (2, .int x2), (3, .int x3), (4, .int x4), (5, .int x5), (6, .ref x6)]) hx hb dX0_ask_19 hl (by decide) rfl (fun ls hl => ?_)
      refine lv_iconst (v := 1) hx hb dX0_ask_21 (by decide) ?_
      cases os hf
      exact x_ret (r_iret X I dX0_ask_22)
    · have hf := im cc_7_E22 hf
      by_cases cc_7_E7 : c_7 = 35
      · have hf := ip cc_7_E7 hf
        refine x_catch (vw := (RJ7, TJ7, 0)) hX X XH I (cc_7_E7 ▸ ec_7) rfl ((tableOf [(0, 16, 19, 18), (0, 16, 23, 13)]).take 1) _ _ rfl (List.forall_mem_cons.mpr ⟨Or.inr ⟨by decide, _, q1558, List.mem_of_getElem? (i := 0) rfl⟩, (fun z hz => nomatch hz)⟩) rfl (by decide) q1197 q723 ?_
        refine lv_astore (lv' := [(7, .ref q_5), (0, .ref x0), (1, .int x1), (2, .int x2), (3, .int x3), (4, .int x4), (5, .int x5), (6, .ref x6)]) hx hb dX0_ask_23 hl (by decide) rfl (fun ls hl => ?_)
        refine lv_iconst (v := 2) hx hb dX0_ask_25 (by decide) ?_
        cases os hf
        exact x_ret (r_iret X I dX0_ask_26)
      · have hf := im cc_7_E7 hf
        exact nomatch hf
theorem mX0_ask {E : EV} {l : Launch} {N : Nat} {σ : St} {x0 : Nat} {x1 : Int32} {x2 : Int32} {x3 : Int32} {x4 : Int32} {x5 : Int32} {x6 : Nat} {res : (Int32 × St)} (hX : XK E) (hS : l.stackTraces = false) (hf : fX0_ask N E.2.2.2.1 σ x0 x1 x2 x3 x4 x5 x6 = some res) : CX E l yX0_ask (wsW_ yX0_ask cX0_ask 8 (some .int) [(0, 16, 19, 18), (0, 16, 23, 13)]) 12 299 [.ref x0, .int x1, .int x2, .int x3, .int x4, .int x5, .ref x6] σ (some (some (.int res.1))) none res.2 := by
  refine CX.ofH hX.1 (by decide) rfl rfl (Nat.le_of_ble_eq_true rfl) ?_
  intro p e s m below meth c X XH I ls hl
  exact wX0_ask_0 hX ⟨Nat.le_refl _, Nat.le_refl _⟩ X XH hS N _ _ _ _ _ _ _ _ _ _ _ _ _ I hl hf
/-! java/util/ArrayList.rangeCheckForAdd(I)V imp=True fuel=False kap=False rt=None thr=False -/
def fJ2_rangeCheckForAdd_12 (x0 : Nat) (x1 : Int32) (σ : St) : Option St := none
def fJ2_rangeCheckForAdd (σ : St) (x0 : Nat) (x1 : Int32) : Option St := (gI σ x0 [(21, 2)]).bind fun v_1 : Int32 => if v_1 < x1 then fJ2_rangeCheckForAdd_12 x0 x1 σ else if 0 ≤ x1 then some σ else fJ2_rangeCheckForAdd_12 x0 x1 σ
theorem wJ2_rangeCheckForAdd_12 {E : EV} {l : Launch} {p : Program} {e : Env} {s : State} {m : MethodId} {args : Array Value} {below : List Frame} {meth : Method} {c : Code} {R : Room} {res : St} (hX : XK E) (hR : 0 ≤ R.frames ∧ 0 ≤ R.locals) (X : MX E p s m args meth c cJ2_rangeCheckForAdd 2 none RJ2 "rangeCheckForAdd") : ∀ (x0 : Nat) (x1 : Int32) (σ : St) (H : Heap) (locs : List Loc) (cells slots : Nat) (ls : Array Slot), WI E R s σ H locs cells slots → lv_has ls 2 [(0, .ref x0), (1, .int x1)] → fJ2_rangeCheckForAdd_12 x0 x1 σ = some res → W p l e R s m args below meth c H locs cells slots (MQ below (Qd E R.cells R.slots none res) args s R.cells R.slots (fr E)) (F0 m 12 ls []) := by
  intro x0 x1 σ H locs cells slots ls I hl hf
  obtain ⟨⟨hx, hb, hml, hown, hts⟩, -⟩ := id X
  unfold fJ2_rangeCheckForAdd_12 at hf
  exact nomatch hf
theorem wJ2_rangeCheckForAdd_0 {E : EV} {l : Launch} {p : Program} {e : Env} {s : State} {m : MethodId} {args : Array Value} {below : List Frame} {meth : Method} {c : Code} {R : Room} {res : St} (hX : XK E) (hR : 0 ≤ R.frames ∧ 0 ≤ R.locals) (X : MX E p s m args meth c cJ2_rangeCheckForAdd 2 none RJ2 "rangeCheckForAdd") : ∀ (x0 : Nat) (x1 : Int32) (σ : St) (H : Heap) (locs : List Loc) (cells slots : Nat) (ls : Array Slot), WI E R s σ H locs cells slots → lv_has ls 2 [(0, .ref x0), (1, .int x1)] → fJ2_rangeCheckForAdd σ x0 x1 = some res → W p l e R s m args below meth c H locs cells slots (MQ below (Qd E R.cells R.slots none res) args s R.cells R.slots (fr E)) (F0 m 0 ls []) := by
  intro x0 x1 σ H locs cells slots ls I hl hf
  obtain ⟨⟨hx, hb, hml, hown, hts⟩, -⟩ := id X
  unfold fJ2_rangeCheckForAdd at hf
  refine lv_iload_n hx hb dJ2_rangeCheckForAdd_0 rfl (lv_at hl 1 rfl) ?_
  refine lv_aload_n hx hb dJ2_rangeCheckForAdd_1 rfl (lv_at hl 0 rfl) ?_
  obtain ⟨v_1, ev_1, hf⟩ := ob hf
  refine g_get X I gfJ2_48 (gI_in ev_1) dJ2_rangeCheckForAdd_2 ?_
  refine lv_icmp_gt (tgt := 12) hx hb dJ2_rangeCheckForAdd_5 (by decide) (fun c_5 => ?_) (fun c_5 => ?_)
  · have hf := ip c_5 hf
    exact wJ2_rangeCheckForAdd_12 hX hR X x0 x1 σ _ _ _ _ _ I (lv_sub hl [0, 1] rfl) hf
  · have hf := im c_5 hf
    refine lv_iload_n hx hb dJ2_rangeCheckForAdd_8 rfl (lv_at hl 1 rfl) ?_
    refine lv_if_ge (tgt := 25) hx hb dJ2_rangeCheckForAdd_9 (by decide) (fun c_9 => ?_) (fun c_9 => ?_)
    · have hf := ip c_9 hf
      cases os hf
      exact r_vret X I dJ2_rangeCheckForAdd_25
    · have hf := im c_9 hf
      exact wJ2_rangeCheckForAdd_12 hX hR X x0 x1 σ _ _ _ _ _ I (lv_sub hl [0, 1] rfl) hf
theorem mJ2_rangeCheckForAdd {E : EV} {l : Launch} {σ : St} {x0 : Nat} {x1 : Int32} {res : St} (hX : XK E) (hf : fJ2_rangeCheckForAdd σ x0 x1 = some res) : CM E l yJ2_rangeCheckForAdd (ws_ yJ2_rangeCheckForAdd cJ2_rangeCheckForAdd 2 none) 0 0 [.ref x0, .int x1] σ none res := by
  refine CM.of hX.1 (by decide) rfl rfl (Nat.le_of_ble_eq_true rfl) ?_
  intro p e s m below meth c X I ls hl
  exact wJ2_rangeCheckForAdd_0 hX ⟨Nat.le_refl _, Nat.le_refl _⟩ X _ _ _ _ _ _ _ _ I hl hf
/-! java/util/ArrayList.add(ILjava/lang/Object;)V imp=True fuel=False kap=True rt=None thr=False -/
theorem lvJ2_135 : GoodIn lw_all (wsV RJ2 135 RJ2 yJ2_rangeCheckForAdd (ws_ yJ2_rangeCheckForAdd cJ2_rangeCheckForAdd 2 none)) := lw_V q2135 q2137 qs31 q118 q2138
theorem hdJ2_135 : yJ2_rangeCheckForAdd.cls = RJ2 ∧ yJ2_rangeCheckForAdd.cls ≠ "java/lang/invoke/MethodHandle" ∧ yJ2_rangeCheckForAdd.cls ≠ "java/lang/invoke/VarHandle" ∧ (parseMethodDescriptor yJ2_rangeCheckForAdd.desc).map (fun d => d.parameters.length) = some 1 := by decide +kernel
def fJ2_add_3_38 (κ : Nat → Nat) (x0 : Nat) (x1 : Int32) (x2 : Nat) (x3 : Int32) (x4 : Option Nat) (σ : St) : Option St := (x4).bind fun a_1 : Nat => (cpR σ a_1 3 x1 a_1 (x1 + (1 : Int32)) (x3 - x1)).bind fun σ_2 : St => (sR σ_2 a_1 3 x1 (some x2)).bind fun σ_3 : St => (pV σ_3 x0 [(21, 2)] (.int (x3 + (1 : Int32)))).bind fun σ_4 : St => some σ_4
def fJ2_add_3 (κ : Nat → Nat) (σ : St) (x0 : Nat) (x1 : Int32) (x2 : Nat) : Option St := (isC σ x0 21).bind fun u_5 : Unit => (fJ2_rangeCheckForAdd σ x0 x1).bind fun σ_7 : St => (gI σ_7 x0 [(21, 0)]).bind fun v_8 : Int32 => (pV σ_7 x0 [(21, 0)] (.int (v_8 + (1 : Int32)))).bind fun σ_9 : St => (gI σ_9 x0 [(21, 2)]).bind fun v_10 : Int32 => (gR σ_9 x0 [(21, 1)]).bind fun v_11 : Option Nat => (v_11).bind fun a_12 : Nat => (aL σ_9 a_12).bind fun v_13 : Int32 => if v_10 = v_13 then (isC σ_9 x0 21).bind fun u_14 : Unit => (fJ2_grow_2 κ σ_9 x0).bind fun (v_15, σ_16) => fJ2_add_3_38 κ x0 x1 x2 v_10 (some v_15) σ_16 else fJ2_add_3_38 κ x0 x1 x2 v_10 (some a_12) σ_9
theorem wJ2_add_3_38 {E : EV} {l : Launch} {p : Program} {e : Env} {s : State} {m : MethodId} {args : Array Value} {below : List Frame} {meth : Method} {c : Code} {R : Room} {res : St} (hX : XK E) (hR : 5 ≤ R.frames ∧ 127 ≤ R.locals) (X : MX E p s m args meth c cJ2_add_3 5 none RJ2 "add") : ∀ (x0 : Nat) (x1 : Int32) (x2 : Nat) (x3 : Int32) (x4 : Option Nat) (σ : St) (H : Heap) (locs : List Loc) (cells slots : Nat) (ls : Array Slot), WI E R s σ H locs cells slots → lv_has ls 5 [(0, .ref x0), (1, .int x1), (2, .ref x2), (3, .int x3), (4, va_rf x4)] → fJ2_add_3_38 E.2.2.2.1 x0 x1 x2 x3 x4 σ = some res → W p l e R s m args below meth c H locs cells slots (MQ below (Qd E R.cells R.slots none res) args s R.cells R.slots (fr E)) (F0 m 38 ls []) := by
  intro x0 x1 x2 x3 x4 σ H locs cells slots ls I hl hf
  obtain ⟨⟨hx, hb, hml, hown, hts⟩, -⟩ := id X
  unfold fJ2_add_3_38 at hf
  refine lo_aload (x := x4) hx hb dJ2_add_3_38 (lv_at hl 4 rfl) ?_
  refine lv_iload_n hx hb dJ2_add_3_40 rfl (lv_at hl 1 rfl) ?_
  refine lo_aload (x := x4) hx hb dJ2_add_3_41 (lv_at hl 4 rfl) ?_
  refine lv_iload_n hx hb dJ2_add_3_43 rfl (lv_at hl 1 rfl) ?_
  refine lv_iconst (v := 1) hx hb dJ2_add_3_44 (by decide) ?_
  refine lv_iadd hx hb dJ2_add_3_45 ?_
  refine lv_iload_n hx hb dJ2_add_3_46 rfl (lv_at hl 3 rfl) ?_
  refine lv_iload_n hx hb dJ2_add_3_47 rfl (lv_at hl 1 rfl) ?_
  refine lv_isub hx hb dJ2_add_3_48 ?_
  obtain ⟨a_1, ea_1, hga_1⟩ := ob hf
  have hla_1 := hl
  have Ia_1 := I
  subst ea_1
  have hf := hga_1
  have hl := hla_1
  have I := Ia_1
  obtain ⟨σ_2, eσ_2, hf⟩ := ob hf
  refine g_copyR hX X I (by decide) q1073 eσ_2 hl.1 ⟨Nat.le_trans (Nat.le_of_ble_eq_true rfl) hR.1, Nat.le_trans (Nat.le_of_ble_eq_true rfl) hR.2⟩ (Nat.le_of_ble_eq_true rfl) dJ2_add_3_49 (fun H locs I => ?_)
  refine lv_aload hx hb dJ2_add_3_52 (lv_at hl 4 rfl) ?_
  refine lv_iload_n hx hb dJ2_add_3_54 rfl (lv_at hl 1 rfl) ?_
  refine lv_aload_n hx hb dJ2_add_3_55 rfl (lv_at hl 2 rfl) ?_
  obtain ⟨σ_3, eσ_3, hf⟩ := ob hf
  refine g_aast (v := (some x2)) hX X I (by decide) eσ_3 dJ2_add_3_56 (fun H locs I => ?_)
  refine lv_aload_n hx hb dJ2_add_3_57 rfl (lv_at hl 0 rfl) ?_
  refine lv_iload_n hx hb dJ2_add_3_58 rfl (lv_at hl 3 rfl) ?_
  refine lv_iconst (v := 1) hx hb dJ2_add_3_59 (by decide) ?_
  refine lv_iadd hx hb dJ2_add_3_60 ?_
  obtain ⟨σ_4, eσ_4, hf⟩ := ob hf
  refine g_put X I pfJ2_48 rfl rfl eσ_4 dJ2_add_3_61 (fun H locs I => ?_)
  cases os hf
  exact r_vret X I dJ2_add_3_64
theorem wJ2_add_3_0 {E : EV} {l : Launch} {p : Program} {e : Env} {s : State} {m : MethodId} {args : Array Value} {below : List Frame} {meth : Method} {c : Code} {R : Room} {res : St} (hX : XK E) (hR : 5 ≤ R.frames ∧ 127 ≤ R.locals) (X : MX E p s m args meth c cJ2_add_3 5 none RJ2 "add") : ∀ (x0 : Nat) (x1 : Int32) (x2 : Nat) (σ : St) (H : Heap) (locs : List Loc) (cells slots : Nat) (ls : Array Slot), WI E R s σ H locs cells slots → lv_has ls 5 [(0, .ref x0), (1, .int x1), (2, .ref x2)] → fJ2_add_3 E.2.2.2.1 σ x0 x1 x2 = some res → W p l e R s m args below meth c H locs cells slots (MQ below (Qd E R.cells R.slots none res) args s R.cells R.slots (fr E)) (F0 m 0 ls []) := by
  intro x0 x1 x2 σ H locs cells slots ls I hl hf
  obtain ⟨⟨hx, hb, hml, hown, hts⟩, -⟩ := id X
  unfold fJ2_add_3 at hf
  refine lv_aload_n hx hb dJ2_add_3_0 rfl (lv_at hl 0 rfl) ?_
  refine lv_iload_n hx hb dJ2_add_3_1 rfl (lv_at hl 1 rfl) ?_
  obtain ⟨u_5, eu_5, hf⟩ := ob hf
  obtain ⟨σ_7, ev_6, hf⟩ := ob hf
  refine cg_V (vw := (RJ2, TJ2, 3)) (ci := 21) (r := none) (σ' := σ_7) (rs := []) (rest := []) (As := [.int x1]) X I eu_5 rfl (mJ2_rangeCheckForAdd hX ev_6) lvJ2_135 hdJ2_135 ⟨Nat.le_trans (Nat.le_of_ble_eq_true rfl) hR.1, Nat.le_trans (Nat.le_of_ble_eq_true rfl) hR.2⟩ rfl hl.1 rfl (Nat.le_of_ble_eq_true rfl) rfl dJ2_add_3_2 (fun H locs cells slots I => ?_)
  refine lv_aload_n hx hb dJ2_add_3_5 rfl (lv_at hl 0 rfl) ?_
  refine lv_dup hx hb dJ2_add_3_6 rfl ?_
  obtain ⟨v_8, ev_8, hf⟩ := ob hf
  refine g_get X I gfJ2_63 (gI_in ev_8) dJ2_add_3_7 ?_
  refine lv_iconst (v := 1) hx hb dJ2_add_3_10 (by decide) ?_
  refine lv_iadd hx hb dJ2_add_3_11 ?_
  obtain ⟨σ_9, eσ_9, hf⟩ := ob hf
  refine g_put X I pfJ2_63 rfl rfl eσ_9 dJ2_add_3_12 (fun H locs I => ?_)
  refine lv_aload_n hx hb dJ2_add_3_15 rfl (lv_at hl 0 rfl) ?_
  obtain ⟨v_10, ev_10, hf⟩ := ob hf
  refine g_get X I gfJ2_48 (gI_in ev_10) dJ2_add_3_16 ?_
  refine lv_dup hx hb dJ2_add_3_19 rfl ?_
  refine lv_istore_n (lv' := [(3, .int v_10), (0, .ref x0), (1, .int x1), (2, .ref x2)]) hx hb dJ2_add_3_20 rfl hl (by decide) rfl (fun ls hl => ?_)
  refine lv_aload_n hx hb dJ2_add_3_21 rfl (lv_at hl 1 rfl) ?_
  obtain ⟨v_11, ev_11, hf⟩ := ob hf
  refine g_get X I gfJ2_9 (gR_in ev_11) dJ2_add_3_22 ?_
  refine lv_dup hx hb dJ2_add_3_25 (rf_cat _) ?_
  refine lo_astore (x := v_11) (lv' := [(4, va_rf v_11), (3, .int v_10), (0, .ref x0), (1, .int x1), (2, .ref x2)]) hx hb dJ2_add_3_26 hl (by decide) rfl (fun ls hl => ?_)
  obtain ⟨a_12, ea_12, hga_12⟩ := ob hf
  have hla_12 := hl
  have Ia_12 := I
  subst ea_12
  have hf := hga_12
  have hl := hla_12
  have I := Ia_12
  obtain ⟨v_13, ev_13, hf⟩ := ob hf
  refine g_alen X I ev_13 dJ2_add_3_28 ?_
  refine lv_icmp_ne (tgt := 38) hx hb dJ2_add_3_29 (by decide) (fun c_29 => ?_) (fun c_29 => ?_)
  · have hf := im c_29 hf
    exact wJ2_add_3_38 hX hR X x0 x1 x2 v_10 (some a_12) σ_9 _ _ _ _ _ I (lv_sub hl [2, 3, 4, 1, 0] rfl) hf
  · have hf := ip c_29 hf
    refine lv_aload_n hx hb dJ2_add_3_32 rfl (lv_at hl 2 rfl) ?_
    obtain ⟨u_14, eu_14, hf⟩ := ob hf
    obtain ⟨⟨v_15, σ_16⟩, ev_15, hf⟩ := ob hf
    refine cg_V (vw := (RJ2, TJ2, 3)) (ci := 21) (r := (some (.ref v_15))) (σ' := σ_16) (rs := [.ref v_15]) (rest := []) (As := []) X I eu_14 rfl (mJ2_grow_2 hX ev_15) lvJ2_129 hdJ2_129 ⟨Nat.le_trans (Nat.le_of_ble_eq_true rfl) hR.1, Nat.le_trans (Nat.le_of_ble_eq_true rfl) hR.2⟩ rfl hl.1 rfl (Nat.le_of_ble_eq_true rfl) rfl dJ2_add_3_33 (fun H locs cells slots I => ?_)
    refine lv_astore (lv' := [(4, .ref v_15), (3, .int v_10), (0, .ref x0), (1, .int x1), (2, .ref x2)]) hx hb dJ2_add_3_36 hl (by decide) rfl (fun ls hl => ?_)
    exact wJ2_add_3_38 hX hR X x0 x1 x2 v_10 (some v_15) σ_16 _ _ _ _ _ I (lv_sub hl [2, 3, 4, 1, 0] rfl) hf
theorem mJ2_add_3 {E : EV} {l : Launch} {σ : St} {x0 : Nat} {x1 : Int32} {x2 : Nat} {res : St} (hX : XK E) (hf : fJ2_add_3 E.2.2.2.1 σ x0 x1 x2 = some res) : CM E l yJ2_add_3 (ws_ yJ2_add_3 cJ2_add_3 5 none) 5 127 [.ref x0, .int x1, .ref x2] σ none res := by
  refine CM.of hX.1 (by decide) rfl rfl (Nat.le_of_ble_eq_true rfl) ?_
  intro p e s m below meth c X I ls hl
  exact wJ2_add_3_0 hX ⟨Nat.le_refl _, Nat.le_refl _⟩ X _ _ _ _ _ _ _ _ _ I hl hf
/-! SharedTaxis$Search.insert(LSharedTaxis$Taxi;I)V imp=True fuel=False kap=True rt=None thr=False -/
theorem gfX14_106 : ∀ q ∈ ([(12, 6)] : List (Nat × Nat)), GF RX14 106 q := List.forall_mem_cons.mpr ⟨⟨RX14, TX14, 8, _, rfl, in_X14, by decide, q1786, Or.inl rfl⟩, fun _ h => by cases h⟩
theorem lvX14_119_J2 : GoodIn lw_all (va_wsF RX14 119 RJ2 ⟨"java/util/List", "add", "(ILjava/lang/Object;)V"⟩ yJ2_add_3 (ws_ yJ2_add_3 cJ2_add_3 5 none)) ∧ (RJ2, ⟨"java/util/List", "add", "(ILjava/lang/Object;)V"⟩, yJ2_add_3) ∈ FWL := ⟨lw_good (List.forall_mem_cons.mpr ⟨q2127, List.forall_mem_cons.mpr ⟨q2130, List.forall_mem_cons.mpr ⟨q2132, List.forall_mem_cons.mpr ⟨q118, fun w h => (lw_meth q2134 w h).1⟩⟩⟩⟩), List.mem_of_getElem? (i := 6) rfl⟩
theorem hdX14_119_J2 : (⟨"java/util/List", "add", "(ILjava/lang/Object;)V"⟩ : MethodName).cls ≠ "java/lang/invoke/MethodHandle" ∧ (⟨"java/util/List", "add", "(ILjava/lang/Object;)V"⟩ : MethodName).cls ≠ "java/lang/invoke/VarHandle" ∧ (parseMethodDescriptor (⟨"java/util/List", "add", "(ILjava/lang/Object;)V"⟩ : MethodName).desc).map (fun d => d.parameters.length) = some 2 := by decide +kernel
theorem gfX14_109 : ∀ q ∈ ([(12, 7)] : List (Nat × Nat)), GF RX14 109 q := List.forall_mem_cons.mpr ⟨⟨RX14, TX14, 8, _, rfl, in_X14, by decide, q1787, Or.inl rfl⟩, fun _ h => by cases h⟩
def fX14_insert (κ : Nat → Nat) (σ : St) (x0 : Nat) (x1 : Nat) (x2 : Int32) : Option St := (gR σ x1 [(10, 7)]).bind fun v_1 : Option Nat => (gI σ x0 [(12, 6)]).bind fun v_2 : Int32 => (nH σ 2 (.inr (13, [.int 0, .int 0]))).bind fun (q_3a, q_3s) => (fX15_init q_3s q_3a x2 (1 : Int32)).bind fun σ_5 : St => (v_1).bind fun a_6 : Nat => (isC σ_5 a_6 21).bind fun u_7 : Unit => (fJ2_add_3 κ σ_5 a_6 v_2 q_3a).bind fun σ_9 : St => (gR σ_9 x1 [(10, 7)]).bind fun v_10 : Option Nat => (gI σ_9 x0 [(12, 7)]).bind fun v_11 : Int32 => (nH σ_9 2 (.inr (13, [.int 0, .int 0]))).bind fun (q_12a, q_12s) => (fX15_init q_12s q_12a x2 (0 : Int32)).bind fun σ_14 : St => (v_10).bind fun a_15 : Nat => (isC σ_14 a_15 21).bind fun u_16 : Unit => (fJ2_add_3 κ σ_14 a_15 v_11 q_12a).bind fun σ_18 : St => some σ_18
theorem wX14_insert_0 {E : EV} {l : Launch} {p : Program} {e : Env} {s : State} {m : MethodId} {args : Array Value} {below : List Frame} {meth : Method} {c : Code} {R : Room} {res : St} (hX : XK E) (hR : 6 ≤ R.frames ∧ 151 ≤ R.locals) (X : MX E p s m args meth c cX14_insert 3 none RX14 "insert") : ∀ (x0 : Nat) (x1 : Nat) (x2 : Int32) (σ : St) (H : Heap) (locs : List Loc) (cells slots : Nat) (ls : Array Slot), WI E R s σ H locs cells slots → lv_has ls 3 [(0, .ref x0), (1, .ref x1), (2, .int x2)] → fX14_insert E.2.2.2.1 σ x0 x1 x2 = some res → W p l e R s m args below meth c H locs cells slots (MQ below (Qd E R.cells R.slots none res) args s R.cells R.slots (fr E)) (F0 m 0 ls []) := by
  intro x0 x1 x2 σ H locs cells slots ls I hl hf
  obtain ⟨⟨hx, hb, hml, hown, hts⟩, -⟩ := id X
  unfold fX14_insert at hf
  refine lv_aload_n hx hb dX14_insert_0 rfl (lv_at hl 1 rfl) ?_
  obtain ⟨v_1, ev_1, hf⟩ := ob hf
  refine g_getN hX X I gfX14_36 (gR_in ev_1) dX14_insert_1 ?_
  refine lv_aload_n hx hb dX14_insert_4 rfl (lv_at hl 0 rfl) ?_
  obtain ⟨v_2, ev_2, hf⟩ := ob hf
  refine g_get X I gfX14_106 (gI_in ev_2) dX14_insert_5 ?_
  obtain ⟨⟨q_3a, q_3s⟩, eq_3, hf⟩ := ob hf
  refine g_new X I noX14_53 eq_3 dX14_insert_8 (fun H locs cells slots I => ?_)
  refine lv_dup hx hb dX14_insert_11 rfl ?_
  refine lv_iload_n hx hb dX14_insert_12 rfl (lv_at hl 2 rfl) ?_
  refine lv_iconst (v := 1) hx hb dX14_insert_13 (by decide) ?_
  obtain ⟨σ_5, ev_4, hf⟩ := ob hf
  refine cm_I (σ' := σ_5) (rs := [.ref q_3a, .int v_2, va_rf v_1]) (rest := [.ref q_3a, .int v_2, va_rf v_1]) (As := [.int x2, .int (1 : Int32)]) X I (mX15_init hX ev_4) lvX14_89 hdX14_89 ⟨Nat.le_trans (Nat.le_of_ble_eq_true rfl) hR.1, Nat.le_trans (Nat.le_of_ble_eq_true rfl) hR.2⟩ rfl hl.1 rfl (by rcases v_1 with _ | _ <;> exact (Nat.le_of_ble_eq_true rfl)) rfl dX14_insert_14 (fun H locs cells slots I => ?_)
  obtain ⟨a_6, ea_6, hga_6⟩ := ob hf
  have hla_6 := hl
  have Ia_6 := I
  subst ea_6
  have hf := hga_6
  have hl := hla_6
  have I := Ia_6
  obtain ⟨u_7, eu_7, hf⟩ := ob hf
  obtain ⟨σ_9, ev_8, hf⟩ := ob hf
  refine cg_F (vw := (RJ2, TJ2, 3)) (ci := 21) (r := none) (σ' := σ_9) (rs := []) (rest := []) (As := [.int v_2, .ref q_3a]) hX X I eu_7 rfl (mJ2_add_3 hX ev_8) lvX14_119_J2 hdX14_119_J2 ⟨Nat.le_trans (Nat.le_of_ble_eq_true rfl) hR.1, Nat.le_trans (Nat.le_of_ble_eq_true rfl) hR.2⟩ rfl hl.1 rfl (Nat.le_of_ble_eq_true rfl) rfl dX14_insert_17 (fun H locs cells slots I => ?_)
  refine lv_aload_n hx hb dX14_insert_22 rfl (lv_at hl 1 rfl) ?_
  obtain ⟨v_10, ev_10, hf⟩ := ob hf
  refine g_getN hX X I gfX14_36 (gR_in ev_10) dX14_insert_23 ?_
  refine lv_aload_n hx hb dX14_insert_26 rfl (lv_at hl 0 rfl) ?_
  obtain ⟨v_11, ev_11, hf⟩ := ob hf
  refine g_get X I gfX14_109 (gI_in ev_11) dX14_insert_27 ?_
  obtain ⟨⟨q_12a, q_12s⟩, eq_12, hf⟩ := ob hf
  refine g_new X I noX14_53 eq_12 dX14_insert_30 (fun H locs cells slots I => ?_)
  refine lv_dup hx hb dX14_insert_33 rfl ?_
  refine lv_iload_n hx hb dX14_insert_34 rfl (lv_at hl 2 rfl) ?_
  refine lv_iconst (v := 0) hx hb dX14_insert_35 (by decide) ?_
  obtain ⟨σ_14, ev_13, hf⟩ := ob hf
  refine cm_I (σ' := σ_14) (rs := [.ref q_12a, .int v_11, va_rf v_10]) (rest := [.ref q_12a, .int v_11, va_rf v_10]) (As := [.int x2, .int (0 : Int32)]) X I (mX15_init hX ev_13) lvX14_89 hdX14_89 ⟨Nat.le_trans (Nat.le_of_ble_eq_true rfl) hR.1, Nat.le_trans (Nat.le_of_ble_eq_true rfl) hR.2⟩ rfl hl.1 rfl (by rcases v_10 with _ | _ <;> exact (Nat.le_of_ble_eq_true rfl)) rfl dX14_insert_36 (fun H locs cells slots I => ?_)
  obtain ⟨a_15, ea_15, hga_15⟩ := ob hf
  have hla_15 := hl
  have Ia_15 := I
  subst ea_15
  have hf := hga_15
  have hl := hla_15
  have I := Ia_15
  obtain ⟨u_16, eu_16, hf⟩ := ob hf
  obtain ⟨σ_18, ev_17, hf⟩ := ob hf
  refine cg_F (vw := (RJ2, TJ2, 3)) (ci := 21) (r := none) (σ' := σ_18) (rs := []) (rest := []) (As := [.int v_11, .ref q_12a]) hX X I eu_16 rfl (mJ2_add_3 hX ev_17) lvX14_119_J2 hdX14_119_J2 ⟨Nat.le_trans (Nat.le_of_ble_eq_true rfl) hR.1, Nat.le_trans (Nat.le_of_ble_eq_true rfl) hR.2⟩ rfl hl.1 rfl (Nat.le_of_ble_eq_true rfl) rfl dX14_insert_39 (fun H locs cells slots I => ?_)
  cases os hf
  exact r_vret X I dX14_insert_44
theorem mX14_insert {E : EV} {l : Launch} {σ : St} {x0 : Nat} {x1 : Nat} {x2 : Int32} {res : St} (hX : XK E) (hf : fX14_insert E.2.2.2.1 σ x0 x1 x2 = some res) : CM E l yX14_insert (ws_ yX14_insert cX14_insert 3 none) 6 151 [.ref x0, .ref x1, .int x2] σ none res := by
  refine CM.of hX.1 (by decide) rfl rfl (Nat.le_of_ble_eq_true rfl) ?_
  intro p e s m below meth c X I ls hl
  exact wX14_insert_0 hX ⟨Nat.le_refl _, Nat.le_refl _⟩ X _ _ _ _ _ _ _ _ _ I hl hf
/-! SharedTaxis.accept(I)I imp=True fuel=True kap=True rt=I thr=True -/
theorem gfX1_437 : ∀ q ∈ ([(15, 0)] : List (Nat × Nat)), GN RX1 437 q := List.forall_mem_cons.mpr ⟨⟨RX17, TX17, 5, _, rfl, in_X17, by decide, q2096⟩, fun _ h => by cases h⟩
theorem lvX1_438 : GoodIn lw_all (wsV RX1 438 RX14 yX14_insert (ws_ yX14_insert cX14_insert 3 none)) := lw_V q2122 q2123 q2124 q150 q2125
theorem hdX1_438 : yX14_insert.cls = RX14 ∧ yX14_insert.cls ≠ "java/lang/invoke/MethodHandle" ∧ yX14_insert.cls ≠ "java/lang/invoke/VarHandle" ∧ (parseMethodDescriptor yX14_insert.desc).map (fun d => d.parameters.length) = some 2 := by decide +kernel
theorem pfX1_334 : ∀ q ∈ ([(14, 9)] : List (Nat × Nat)), PN RX1 334 .int q := List.forall_mem_cons.mpr ⟨⟨RX16, TX16, 15, _, tyX16, rfl, in_X16, by decide, q1134, tyX16_ok, nmX16, rfl, rfl⟩, fun _ h => by cases h⟩
theorem gfX1_442 : ∀ q ∈ ([(12, 4)] : List (Nat × Nat)), GN RX1 442 q := List.forall_mem_cons.mpr ⟨⟨RX14, TX14, 8, _, rfl, in_X14, by decide, q1783⟩, fun _ h => by cases h⟩
def fX1_accept (N : Nat) (κ : Nat → Nat) (σ : St) (x0 : Nat) (x1 : Int32) : Option ((Int32 ⊕ Nat) × St) := (isC σ x0 0).bind fun u_1 : Unit => (fX1_rideAt σ x0 x1).bind fun (v_2, σ_3) => se v_2 (fun v_4 => (gI σ_3 v_4 [(14, 8)]).bind fun v_6 : Int32 => if v_6 = 0 then (gR σ_3 v_4 [(14, 14)]).bind fun v_7 : Option Nat => (v_7).bind fun a_8 : Nat => (gI σ_3 a_8 [(15, 0)]).bind fun v_9 : Int32 => (nH σ_3 8 (.inr (12, [.null, .null, .null, .int 0, .int 0, .int 0, .int 0, .int 0]))).bind fun (q_10a, q_10s) => (gR q_10s x0 [(0, 3)]).bind fun v_11 : Option Nat => (v_11).bind fun a_12 : Nat => (fX14_init κ q_10s q_10a a_12).bind fun σ_14 : St => (gR σ_14 x0 [(0, 3)]).bind fun v_15 : Option Nat => (v_15).bind fun a_16 : Nat => (gR σ_14 a_16 [(1, 5)]).bind fun v_17 : Option Nat => (v_17).bind fun a_18 : Nat => (isC σ_14 a_18 21).bind fun u_19 : Unit => (fJ2_get σ_14 a_18 v_9).bind fun v_20 : Option Nat => (v_20).bind fun a_22 : Nat => (isC σ_14 a_22 10).bind fun u_23 : Unit => (isC σ_14 q_10a 12).bind fun u_24 : Unit => (fX14_find N κ σ_14 q_10a a_22 x1).bind fun (v_25, σ_26) => if v_25 = 0 then some (.inl (-3 : Int32), σ_26) else (isC σ_26 x0 0).bind fun u_27 : Unit => (fX1_beginOperation N κ σ_26 x0).bind fun (v_28, σ_29) => (v_28).bind fun a_30 : Nat => (gR σ_29 a_30 [(1, 5)]).bind fun v_31 : Option Nat => (v_31).bind fun a_32 : Nat => (isC σ_29 a_32 21).bind fun u_33 : Unit => (fJ2_get σ_29 a_32 v_9).bind fun v_34 : Option Nat => (v_34).bind fun a_36 : Nat => (isC σ_29 a_36 10).bind fun u_37 : Unit => (isC σ_29 q_10a 12).bind fun u_38 : Unit => (fX14_insert κ σ_29 q_10a a_36 x1).bind fun σ_40 : St => (pV σ_40 v_4 [(14, 8)] (.int (1 : Int32))).bind fun σ_41 : St => (pV σ_41 v_4 [(14, 9)] (.int v_9)).bind fun σ_42 : St => (gI σ_42 q_10a [(12, 4)]).bind fun v_43 : Int32 => some (.inl v_43, σ_42) else some (.inl (-2 : Int32), σ_3)) (fun q_5 => (isX σ_3 q_5).bind fun uq_5 : Unit => some (.inr q_5, σ_3))
theorem wX1_accept_0 {E : EV} {l : Launch} {p : Program} {e : Env} {s : State} {m : MethodId} {args : Array Value} {below : List Frame} {meth : Method} {c : Code} {R : Room} {res : ((Int32 ⊕ Nat) × St)} (hX : XK E) (hR : 10 ≤ R.frames ∧ 247 ≤ R.locals) (X : MX E p s m args meth c cX1_accept 5 (some .int) RX1 "accept") (XH : MH c []) (hS : l.stackTraces = false) (N : Nat) : ∀ (x0 : Nat) (x1 : Int32) (σ : St) (H : Heap) (locs : List Loc) (cells slots : Nat) (ls : Array Slot), WI E R s σ H locs cells slots → lv_has ls 5 [(0, .ref x0), (1, .int x1)] → fX1_accept N E.2.2.2.1 σ x0 x1 = some res → W p l e R s m args below meth c H locs cells slots (vx_MQ below (QS E R.cells R.slots (sv (fun v => (some (.int v))) res.1) res.2) (XS E R.cells R.slots (sx res.1) res.2) args s R.cells R.slots (fr E)) (F0 m 0 ls []) := by
  intro x0 x1 σ H locs cells slots ls I hl hf
  obtain ⟨⟨hx, hb, hml, hown, hts⟩, -⟩ := id X
  unfold fX1_accept at hf
  refine lv_aload_n hx hb dX1_accept_0 rfl (lv_at hl 0 rfl) ?_
  refine lv_iload_n hx hb dX1_accept_1 rfl (lv_at hl 1 rfl) ?_
  obtain ⟨u_1, eu_1, hf⟩ := ob hf
  obtain ⟨⟨v_2, σ_3⟩, ev_2, hf⟩ := ob hf
  have hgv_2 := hf
  rcases v_2 with v_4 | q_5
  · have hf := se_l hgv_2
    refine cx_ret (r := (some (.ref v_4))) (rs := [.ref v_4]) I (xr_V (vw := (RX1, TX1, 7)) (ci := 0) (σ' := σ_3) (rest := []) (As := [.int x1]) X I eu_1 rfl (mX1_rideAt hX hS ev_2) lvX1_309 hdX1_309 ⟨Nat.le_trans (Nat.le_of_ble_eq_true rfl) hR.1, Nat.le_trans (Nat.le_of_ble_eq_true rfl) hR.2⟩ rfl hl.1 rfl (Nat.le_of_ble_eq_true rfl) dX1_accept_2) rfl (fun H locs cells slots I => ?_)
    refine lv_astore_n (lv' := [(2, .ref v_4), (0, .ref x0), (1, .int x1)]) hx hb dX1_accept_5 rfl hl (by decide) rfl (fun ls hl => ?_)
    refine lv_aload_n hx hb dX1_accept_6 rfl (lv_at hl 0 rfl) ?_
    obtain ⟨v_6, ev_6, hf⟩ := ob hf
    refine g_getN hX X I gfX1_313 (gI_in ev_6) dX1_accept_7 ?_
    refine lv_if_eq (tgt := 16) hx hb dX1_accept_10 (by decide) (fun c_10 => ?_) (fun c_10 => ?_)
    · have hf := ip c_10 hf
      refine lv_aload_n hx hb dX1_accept_16 rfl (lv_at hl 0 rfl) ?_
      obtain ⟨v_7, ev_7, hf⟩ := ob hf
      refine g_getN hX X I gfX1_350 (gR_in ev_7) dX1_accept_17 ?_
      obtain ⟨a_8, ea_8, hga_8⟩ := ob hf
      have hla_8 := hl
      have Ia_8 := I
      subst ea_8
      have hf := hga_8
      have hl := hla_8
      have I := Ia_8
      obtain ⟨v_9, ev_9, hf⟩ := ob hf
      refine g_getN hX X I gfX1_437 (gI_in ev_9) dX1_accept_20 ?_
      refine lv_istore_n (lv' := [(3, .int v_9), (2, .ref v_4), (0, .ref x0), (1, .int x1)]) hx hb dX1_accept_23 rfl hl (by decide) rfl (fun ls hl => ?_)
      obtain ⟨⟨q_10a, q_10s⟩, eq_10, hf⟩ := ob hf
      refine g_new X I noX1_358 eq_10 dX1_accept_24 (fun H locs cells slots I => ?_)
      refine lv_dup hx hb dX1_accept_27 rfl ?_
      refine lv_aload_n hx hb dX1_accept_28 rfl (lv_at hl 2 rfl) ?_
      obtain ⟨v_11, ev_11, hf⟩ := ob hf
      refine g_get X I gfX1_87 (gR_in ev_11) dX1_accept_29 ?_
      obtain ⟨a_12, ea_12, hga_12⟩ := ob hf
      have hla_12 := hl
      have Ia_12 := I
      subst ea_12
      have hf := hga_12
      have hl := hla_12
      have I := Ia_12
      obtain ⟨σ_14, ev_13, hf⟩ := ob hf
      refine cm_I (σ' := σ_14) (rs := [.ref q_10a]) (rest := [.ref q_10a]) (As := [.ref a_12]) X I (mX14_init hX ev_13) lvX1_360 hdX1_360 ⟨Nat.le_trans (Nat.le_of_ble_eq_true rfl) hR.1, Nat.le_trans (Nat.le_of_ble_eq_true rfl) hR.2⟩ rfl hl.1 rfl (Nat.le_of_ble_eq_true rfl) rfl dX1_accept_32 (fun H locs cells slots I => ?_)
      refine lv_astore (lv' := [(4, .ref q_10a), (3, .int v_9), (2, .ref v_4), (0, .ref x0), (1, .int x1)]) hx hb dX1_accept_35 hl (by decide) rfl (fun ls hl => ?_)
      refine lv_aload hx hb dX1_accept_37 (lv_at hl 0 rfl) ?_
      refine lv_aload_n hx hb dX1_accept_39 rfl (lv_at hl 3 rfl) ?_
      obtain ⟨v_15, ev_15, hf⟩ := ob hf
      refine g_get X I gfX1_87 (gR_in ev_15) dX1_accept_40 ?_
      obtain ⟨a_16, ea_16, hga_16⟩ := ob hf
      have hla_16 := hl
      have Ia_16 := I
      subst ea_16
      have hf := hga_16
      have hl := hla_16
      have I := Ia_16
      obtain ⟨v_17, ev_17, hf⟩ := ob hf
      refine g_getN hX X I gfX1_133 (gR_in ev_17) dX1_accept_43 ?_
      refine lv_iload_n hx hb dX1_accept_46 rfl (lv_at hl 1 rfl) ?_
      obtain ⟨a_18, ea_18, hga_18⟩ := ob hf
      have hla_18 := hl
      have Ia_18 := I
      subst ea_18
      have hf := hga_18
      have hl := hla_18
      have I := Ia_18
      obtain ⟨u_19, eu_19, hf⟩ := ob hf
      obtain ⟨v_20, ev_20, hf⟩ := ob hf
      refine cg_F (vw := (RJ2, TJ2, 3)) (ci := 21) (r := (some (va_rf v_20))) (σ' := σ_14) (rs := [va_rf v_20, .ref q_10a]) (rest := [.ref q_10a]) (As := [.int v_9]) hX X I eu_19 rfl (mJ2_get hX ev_20) lvX1_140_J2 hdX1_140_J2 ⟨Nat.le_trans (Nat.le_of_ble_eq_true rfl) hR.1, Nat.le_trans (Nat.le_of_ble_eq_true rfl) hR.2⟩ rfl hl.1 rfl (Nat.le_of_ble_eq_true rfl) rfl dX1_accept_47 (fun H locs cells slots I => ?_)
      obtain ⟨a_22, ea_22, hga_22⟩ := ob hf
      have hla_22 := hl
      have Ia_22 := I
      subst ea_22
      have hf := hga_22
      have hl := hla_22
      have I := Ia_22
      obtain ⟨u_23, eu_23, hf⟩ := ob hf
      refine g_cast (vw := (RX12, TX12, 15)) X I rfl q805 eu_23 dX1_accept_52 ?_
      refine lv_iload_n hx hb dX1_accept_55 rfl (lv_at hl 4 rfl) ?_
      obtain ⟨u_24, eu_24, hf⟩ := ob hf
      obtain ⟨⟨v_25, σ_26⟩, ev_25, hf⟩ := ob hf
      refine cg_V (vw := (RX14, TX14, 8)) (ci := 12) (r := (some (.int v_25))) (σ' := σ_26) (rs := [.int v_25]) (rest := []) (As := [.ref a_22, .int x1]) X I eu_24 rfl (mX14_find hX ev_25) lvX1_361 hdX1_361 ⟨Nat.le_trans (Nat.le_of_ble_eq_true rfl) hR.1, Nat.le_trans (Nat.le_of_ble_eq_true rfl) hR.2⟩ rfl hl.1 rfl (Nat.le_of_ble_eq_true rfl) rfl dX1_accept_56 (fun H locs cells slots I => ?_)
      refine lv_if_ne (tgt := 65) hx hb dX1_accept_59 (by decide) (fun c_59 => ?_) (fun c_59 => ?_)
      · have hf := im c_59 hf
        refine lv_aload hx hb dX1_accept_65 (lv_at hl 0 rfl) ?_
        refine lv_aload_n hx hb dX1_accept_67 rfl (lv_at hl 3 rfl) ?_
        obtain ⟨u_27, eu_27, hf⟩ := ob hf
        obtain ⟨⟨v_28, σ_29⟩, ev_28, hf⟩ := ob hf
        refine cg_V (vw := (RX1, TX1, 7)) (ci := 0) (r := (some (va_rf v_28))) (σ' := σ_29) (rs := [va_rf v_28, .ref q_10a]) (rest := [.ref q_10a]) (As := []) X I eu_27 rfl (mX1_beginOperation hX ev_28) lvX1_431 hdX1_431 ⟨Nat.le_trans (Nat.le_of_ble_eq_true rfl) hR.1, Nat.le_trans (Nat.le_of_ble_eq_true rfl) hR.2⟩ rfl hl.1 rfl (Nat.le_of_ble_eq_true rfl) rfl dX1_accept_68 (fun H locs cells slots I => ?_)
        obtain ⟨a_30, ea_30, hga_30⟩ := ob hf
        have hla_30 := hl
        have Ia_30 := I
        subst ea_30
        have hf := hga_30
        have hl := hla_30
        have I := Ia_30
        obtain ⟨v_31, ev_31, hf⟩ := ob hf
        refine g_getN hX X I gfX1_133 (gR_in ev_31) dX1_accept_71 ?_
        refine lv_iload_n hx hb dX1_accept_74 rfl (lv_at hl 1 rfl) ?_
        obtain ⟨a_32, ea_32, hga_32⟩ := ob hf
        have hla_32 := hl
        have Ia_32 := I
        subst ea_32
        have hf := hga_32
        have hl := hla_32
        have I := Ia_32
        obtain ⟨u_33, eu_33, hf⟩ := ob hf
        obtain ⟨v_34, ev_34, hf⟩ := ob hf
        refine cg_F (vw := (RJ2, TJ2, 3)) (ci := 21) (r := (some (va_rf v_34))) (σ' := σ_29) (rs := [va_rf v_34, .ref q_10a]) (rest := [.ref q_10a]) (As := [.int v_9]) hX X I eu_33 rfl (mJ2_get hX ev_34) lvX1_140_J2 hdX1_140_J2 ⟨Nat.le_trans (Nat.le_of_ble_eq_true rfl) hR.1, Nat.le_trans (Nat.le_of_ble_eq_true rfl) hR.2⟩ rfl hl.1 rfl (Nat.le_of_ble_eq_true rfl) rfl dX1_accept_75 (fun H locs cells slots I => ?_)
        obtain ⟨a_36, ea_36, hga_36⟩ := ob hf
        have hla_36 := hl
        have Ia_36 := I
        subst ea_36
        have hf := hga_36
        have hl := hla_36
        have I := Ia_36
        obtain ⟨u_37, eu_37, hf⟩ := ob hf
        refine g_cast (vw := (RX12, TX12, 15)) X I rfl q805 eu_37 dX1_accept_80 ?_
        refine lv_iload_n hx hb dX1_accept_83 rfl (lv_at hl 4 rfl) ?_
        obtain ⟨u_38, eu_38, hf⟩ := ob hf
        obtain ⟨σ_40, ev_39, hf⟩ := ob hf
        refine cg_V (vw := (RX14, TX14, 8)) (ci := 12) (r := none) (σ' := σ_40) (rs := []) (rest := []) (As := [.ref a_36, .int x1]) X I eu_38 rfl (mX14_insert hX ev_39) lvX1_438 hdX1_438 ⟨Nat.le_trans (Nat.le_of_ble_eq_true rfl) hR.1, Nat.le_trans (Nat.le_of_ble_eq_true rfl) hR.2⟩ rfl hl.1 rfl (Nat.le_of_ble_eq_true rfl) rfl dX1_accept_84 (fun H locs cells slots I => ?_)
        refine lv_aload_n hx hb dX1_accept_87 rfl (lv_at hl 2 rfl) ?_
        refine lv_iconst (v := 1) hx hb dX1_accept_88 (by decide) ?_
        obtain ⟨σ_41, eσ_41, hf⟩ := ob hf
        refine g_putN hX X I pfX1_313 rfl rfl eσ_41 dX1_accept_89 (fun H locs I => ?_)
        refine lv_aload_n hx hb dX1_accept_92 rfl (lv_at hl 2 rfl) ?_
        refine lv_iload_n hx hb dX1_accept_93 rfl (lv_at hl 1 rfl) ?_
        obtain ⟨σ_42, eσ_42, hf⟩ := ob hf
        refine g_putN hX X I pfX1_334 rfl rfl eσ_42 dX1_accept_94 (fun H locs I => ?_)
        refine lv_aload hx hb dX1_accept_97 (lv_at hl 0 rfl) ?_
        obtain ⟨v_43, ev_43, hf⟩ := ob hf
        refine g_getN hX X I gfX1_442 (gI_in ev_43) dX1_accept_99 ?_
        cases os hf
        exact x_ret (r_iret X I dX1_accept_102)
      · have hf := ip c_59 hf
        refine lv_bipush (v := (-3)) hx hb dX1_accept_62 (by decide) ?_
        cases os hf
        exact x_ret (r_iret X I dX1_accept_64)
    · have hf := im c_10 hf
      refine lv_bipush (v := (-2)) hx hb dX1_accept_13 (by decide) ?_
      cases os hf
      exact x_ret (r_iret X I dX1_accept_15)
  · have hf := se_r hgv_2
    obtain ⟨uq_5, eq_5, hf⟩ := ob hf
    cases os hf
    refine cx_thr I (xr_V (vw := (RX1, TX1, 7)) (ci := 0) (σ' := σ_3) (rest := []) (As := [.int x1]) X I eu_1 rfl (mX1_rideAt hX hS ev_2) lvX1_309 hdX1_309 ⟨Nat.le_trans (Nat.le_of_ble_eq_true rfl) hR.1, Nat.le_trans (Nat.le_of_ble_eq_true rfl) hR.2⟩ rfl hl.1 rfl (Nat.le_of_ble_eq_true rfl) dX1_accept_2) (fun H locs cells slots I => ?_)
    exact x_out X XH rfl I eq_5
theorem mX1_accept {E : EV} {l : Launch} {N : Nat} {σ : St} {x0 : Nat} {x1 : Int32} {res : ((Int32 ⊕ Nat) × St)} (hX : XK E) (hS : l.stackTraces = false) (hf : fX1_accept N E.2.2.2.1 σ x0 x1 = some res) : CX E l yX1_accept (ws_ yX1_accept cX1_accept 5 (some .int)) 10 247 [.ref x0, .int x1] σ (sv (fun v => (some (.int v))) res.1) (sx res.1) res.2 := by
  refine CX.of hX.1 (by decide) rfl rfl (Nat.le_of_ble_eq_true rfl) ?_
  intro p e s m below meth c X XH I ls hl
  exact wX1_accept_0 hX ⟨Nat.le_refl _, Nat.le_refl _⟩ X XH hS N _ _ _ _ _ _ _ _ I hl hf
/-! SharedTaxisLaw.accept(LSharedTaxis;I[J)I imp=True fuel=True kap=True rt=I thr=False -/
theorem lvX0_66 : GoodIn lw_all (wsV RX0 66 RX1 yX1_accept (ws_ yX1_accept cX1_accept 5 (some .int))) := lw_V q2118 q2119 q2120 q113 q2121
theorem hdX0_66 : yX1_accept.cls = RX1 ∧ yX1_accept.cls ≠ "java/lang/invoke/MethodHandle" ∧ yX1_accept.cls ≠ "java/lang/invoke/VarHandle" ∧ (parseMethodDescriptor yX1_accept.desc).map (fun d => d.parameters.length) = some 1 := by decide +kernel
def fX0_accept (N : Nat) (κ : Nat → Nat) (σ : St) (x0 : Nat) (x1 : Int32) (x2 : Nat) : Option (Int32 × St) := (isC σ x0 0).bind fun u_1 : Unit => (fX1_accept N κ σ x0 x1).bind fun (v_2, σ_3) => se v_2 (fun v_4 => (sJ σ_3 x2 (0 : Int32) (v_4.toInt64)).bind fun σ_6 : St => some ((0 : Int32), σ_6)) (fun q_5 => (clsX σ_3 q_5).bind fun c_7 : Nat => if c_7 = 34 then some ((1 : Int32), σ_3) else none)
theorem wX0_accept_0 {E : EV} {l : Launch} {p : Program} {e : Env} {s : State} {m : MethodId} {args : Array Value} {below : List Frame} {meth : Method} {c : Code} {R : Room} {res : (Int32 × St)} (hX : XK E) (hR : 11 ≤ R.frames ∧ 271 ≤ R.locals) (X : MX E p s m args meth c cX0_accept 4 (some .int) RX0 "accept") (XH : MH c [(0, 9, 12, 18)]) (hS : l.stackTraces = false) (N : Nat) : ∀ (x0 : Nat) (x1 : Int32) (x2 : Nat) (σ : St) (H : Heap) (locs : List Loc) (cells slots : Nat) (ls : Array Slot), WI E R s σ H locs cells slots → lv_has ls 4 [(0, .ref x0), (1, .int x1), (2, .ref x2)] → fX0_accept N E.2.2.2.1 σ x0 x1 x2 = some res → W p l e R s m args below meth c H locs cells slots (vx_MQ below (QS E R.cells R.slots (some (some (.int res.1))) res.2) (XS E R.cells R.slots none res.2) args s R.cells R.slots (fr E)) (F0 m 0 ls []) := by
  intro x0 x1 x2 σ H locs cells slots ls I hl hf
  obtain ⟨⟨hx, hb, hml, hown, hts⟩, -⟩ := id X
  unfold fX0_accept at hf
  refine lv_aload_n hx hb dX0_accept_0 rfl (lv_at hl 2 rfl) ?_
  refine lv_iconst (v := 0) hx hb dX0_accept_1 (by decide) ?_
  refine lv_aload_n hx hb dX0_accept_2 rfl (lv_at hl 0 rfl) ?_
  refine lv_iload_n hx hb dX0_accept_3 rfl (lv_at hl 1 rfl) ?_
  obtain ⟨u_1, eu_1, hf⟩ := ob hf
  obtain ⟨⟨v_2, σ_3⟩, ev_2, hf⟩ := ob hf
  have hgv_2 := hf
  rcases v_2 with v_4 | q_5
  · have hf := se_l hgv_2
    refine cx_ret (r := (some (.int v_4))) (rs := [.int v_4, .int (0 : Int32), .ref x2]) I (xr_V (vw := (RX1, TX1, 7)) (ci := 0) (σ' := σ_3) (rest := [.int (0 : Int32), .ref x2]) (As := [.int x1]) X I eu_1 rfl (mX1_accept hX hS ev_2) lvX0_66 hdX0_66 ⟨Nat.le_trans (Nat.le_of_ble_eq_true rfl) hR.1, Nat.le_trans (Nat.le_of_ble_eq_true rfl) hR.2⟩ rfl hl.1 rfl (Nat.le_of_ble_eq_true rfl) dX0_accept_4) rfl (fun H locs cells slots I => ?_)
    refine lv_i2l hx hb dX0_accept_7 rfl ?_
    obtain ⟨σ_6, eσ_6, hf⟩ := ob hf
    refine g_last X I eσ_6 dX0_accept_8 (fun H locs I => ?_)
    refine lv_goto (tgt := 15) hx hb dX0_accept_9 (by decide) ?_
    refine lv_iconst (v := 0) hx hb dX0_accept_15 (by decide) ?_
    cases os hf
    exact x_ret (r_iret X I dX0_accept_16)
  · have hf := se_r hgv_2
    obtain ⟨c_7, ec_7, hf⟩ := ob hf
    refine cx_thr I (xr_V (vw := (RX1, TX1, 7)) (ci := 0) (σ' := σ_3) (rest := [.int (0 : Int32), .ref x2]) (As := [.int x1]) X I eu_1 rfl (mX1_accept hX hS ev_2) lvX0_66 hdX0_66 ⟨Nat.le_trans (Nat.le_of_ble_eq_true rfl) hR.1, Nat.le_trans (Nat.le_of_ble_eq_true rfl) hR.2⟩ rfl hl.1 rfl (Nat.le_of_ble_eq_true rfl) dX0_accept_4) (fun H locs cells slots I => ?_)
    by_cases cc_7_E22 : c_7 = 34
    · have hf := ip cc_7_E22 hf
      refine x_catch (vw := (RJ22, TJ22, 0)) hX X XH I (cc_7_E22 ▸ ec_7) rfl ((tableOf [(0, 9, 12, 18)]).take 0) _ _ rfl (fun z hz => nomatch hz) rfl (by decide) q1558 q417 ?_
      refine lv_astore_n (lv' := [(3, .ref q_5), (0, .ref x0), (1, .int x1), (2, .ref x2)]) hx hb dX0_accept_12 rfl hl (by decide) rfl (fun ls hl => ?_)
      refine lv_iconst (v := 1) hx hb dX0_accept_13 (by decide) ?_
      cases os hf
      exact x_ret (r_iret X I dX0_accept_14)
    · have hf := im cc_7_E22 hf
      exact nomatch hf
theorem mX0_accept {E : EV} {l : Launch} {N : Nat} {σ : St} {x0 : Nat} {x1 : Int32} {x2 : Nat} {res : (Int32 × St)} (hX : XK E) (hS : l.stackTraces = false) (hf : fX0_accept N E.2.2.2.1 σ x0 x1 x2 = some res) : CX E l yX0_accept (wsW_ yX0_accept cX0_accept 4 (some .int) [(0, 9, 12, 18)]) 11 271 [.ref x0, .int x1, .ref x2] σ (some (some (.int res.1))) none res.2 := by
  refine CX.ofH hX.1 (by decide) rfl rfl (Nat.le_of_ble_eq_true rfl) ?_
  intro p e s m below meth c X XH I ls hl
  exact wX0_accept_0 hX ⟨Nat.le_refl _, Nat.le_refl _⟩ X XH hS N _ _ _ _ _ _ _ _ _ I hl hf
/-! SharedTaxis.decline(I)I imp=True fuel=True kap=True rt=I thr=True -/
def fX1_decline (N : Nat) (κ : Nat → Nat) (σ : St) (x0 : Nat) (x1 : Int32) : Option ((Int32 ⊕ Nat) × St) := (isC σ x0 0).bind fun u_1 : Unit => (fX1_rideAt σ x0 x1).bind fun (v_2, σ_3) => se v_2 (fun v_4 => (gI σ_3 v_4 [(14, 8)]).bind fun v_6 : Int32 => if v_6 = 0 then (isC σ_3 x0 0).bind fun u_7 : Unit => (fX1_beginOperation N κ σ_3 x0).bind fun (v_8, σ_9) => (pV σ_9 v_4 [(14, 8)] (.int (4 : Int32))).bind fun σ_10 : St => (gR σ_10 x0 [(0, 3)]).bind fun v_11 : Option Nat => (v_11).bind fun a_12 : Nat => (isC σ_10 a_12 1).bind fun u_13 : Unit => (fX2_ridesIn N σ_10 a_12 (0 : Int32)).bind fun v_14 : Int32 => some (.inl v_14, σ_10) else some (.inl (-2 : Int32), σ_3)) (fun q_5 => (isX σ_3 q_5).bind fun uq_5 : Unit => some (.inr q_5, σ_3))
theorem wX1_decline_0 {E : EV} {l : Launch} {p : Program} {e : Env} {s : State} {m : MethodId} {args : Array Value} {below : List Frame} {meth : Method} {c : Code} {R : Room} {res : ((Int32 ⊕ Nat) × St)} (hX : XK E) (hR : 10 ≤ R.frames ∧ 235 ≤ R.locals) (X : MX E p s m args meth c cX1_decline 3 (some .int) RX1 "decline") (XH : MH c []) (hS : l.stackTraces = false) (N : Nat) : ∀ (x0 : Nat) (x1 : Int32) (σ : St) (H : Heap) (locs : List Loc) (cells slots : Nat) (ls : Array Slot), WI E R s σ H locs cells slots → lv_has ls 3 [(0, .ref x0), (1, .int x1)] → fX1_decline N E.2.2.2.1 σ x0 x1 = some res → W p l e R s m args below meth c H locs cells slots (vx_MQ below (QS E R.cells R.slots (sv (fun v => (some (.int v))) res.1) res.2) (XS E R.cells R.slots (sx res.1) res.2) args s R.cells R.slots (fr E)) (F0 m 0 ls []) := by
  intro x0 x1 σ H locs cells slots ls I hl hf
  obtain ⟨⟨hx, hb, hml, hown, hts⟩, -⟩ := id X
  unfold fX1_decline at hf
  refine lv_aload_n hx hb dX1_decline_0 rfl (lv_at hl 0 rfl) ?_
  refine lv_iload_n hx hb dX1_decline_1 rfl (lv_at hl 1 rfl) ?_
  obtain ⟨u_1, eu_1, hf⟩ := ob hf
  obtain ⟨⟨v_2, σ_3⟩, ev_2, hf⟩ := ob hf
  have hgv_2 := hf
  rcases v_2 with v_4 | q_5
  · have hf := se_l hgv_2
    refine cx_ret (r := (some (.ref v_4))) (rs := [.ref v_4]) I (xr_V (vw := (RX1, TX1, 7)) (ci := 0) (σ' := σ_3) (rest := []) (As := [.int x1]) X I eu_1 rfl (mX1_rideAt hX hS ev_2) lvX1_309 hdX1_309 ⟨Nat.le_trans (Nat.le_of_ble_eq_true rfl) hR.1, Nat.le_trans (Nat.le_of_ble_eq_true rfl) hR.2⟩ rfl hl.1 rfl (Nat.le_of_ble_eq_true rfl) dX1_decline_2) rfl (fun H locs cells slots I => ?_)
    refine lv_astore_n (lv' := [(2, .ref v_4), (0, .ref x0), (1, .int x1)]) hx hb dX1_decline_5 rfl hl (by decide) rfl (fun ls hl => ?_)
    refine lv_aload_n hx hb dX1_decline_6 rfl (lv_at hl 0 rfl) ?_
    obtain ⟨v_6, ev_6, hf⟩ := ob hf
    refine g_getN hX X I gfX1_313 (gI_in ev_6) dX1_decline_7 ?_
    refine lv_if_eq (tgt := 16) hx hb dX1_decline_10 (by decide) (fun c_10 => ?_) (fun c_10 => ?_)
    · have hf := ip c_10 hf
      refine lv_aload_n hx hb dX1_decline_16 rfl (lv_at hl 1 rfl) ?_
      obtain ⟨u_7, eu_7, hf⟩ := ob hf
      obtain ⟨⟨v_8, σ_9⟩, ev_8, hf⟩ := ob hf
      refine cg_V (vw := (RX1, TX1, 7)) (ci := 0) (r := (some (va_rf v_8))) (σ' := σ_9) (rs := [va_rf v_8]) (rest := []) (As := []) X I eu_7 rfl (mX1_beginOperation hX ev_8) lvX1_431 hdX1_431 ⟨Nat.le_trans (Nat.le_of_ble_eq_true rfl) hR.1, Nat.le_trans (Nat.le_of_ble_eq_true rfl) hR.2⟩ rfl hl.1 rfl (Nat.le_of_ble_eq_true rfl) rfl dX1_decline_17 (fun H locs cells slots I => ?_)
      refine lv_pop hx hb dX1_decline_20 (rf_cat _) ?_
      refine lv_aload_n hx hb dX1_decline_21 rfl (lv_at hl 0 rfl) ?_
      refine lv_iconst (v := 4) hx hb dX1_decline_22 (by decide) ?_
      obtain ⟨σ_10, eσ_10, hf⟩ := ob hf
      refine g_putN hX X I pfX1_313 rfl rfl eσ_10 dX1_decline_23 (fun H locs I => ?_)
      refine lv_aload_n hx hb dX1_decline_26 rfl (lv_at hl 1 rfl) ?_
      obtain ⟨v_11, ev_11, hf⟩ := ob hf
      refine g_get X I gfX1_87 (gR_in ev_11) dX1_decline_27 ?_
      refine lv_iconst (v := 0) hx hb dX1_decline_30 (by decide) ?_
      obtain ⟨a_12, ea_12, hga_12⟩ := ob hf
      have hla_12 := hl
      have Ia_12 := I
      subst ea_12
      have hf := hga_12
      have hl := hla_12
      have I := Ia_12
      obtain ⟨u_13, eu_13, hf⟩ := ob hf
      obtain ⟨v_14, ev_14, hf⟩ := ob hf
      refine cg_V (vw := (RX2, TX2, 7)) (ci := 1) (r := (some (.int v_14))) (σ' := σ_10) (rs := [.int v_14]) (rest := []) (As := [.int (0 : Int32)]) X I eu_13 rfl (mX2_ridesIn hX ev_14) lvX1_212 hdX1_212 ⟨Nat.le_trans (Nat.le_of_ble_eq_true rfl) hR.1, Nat.le_trans (Nat.le_of_ble_eq_true rfl) hR.2⟩ rfl hl.1 rfl (Nat.le_of_ble_eq_true rfl) rfl dX1_decline_31 (fun H locs cells slots I => ?_)
      cases os hf
      exact x_ret (r_iret X I dX1_decline_34)
    · have hf := im c_10 hf
      refine lv_bipush (v := (-2)) hx hb dX1_decline_13 (by decide) ?_
      cases os hf
      exact x_ret (r_iret X I dX1_decline_15)
  · have hf := se_r hgv_2
    obtain ⟨uq_5, eq_5, hf⟩ := ob hf
    cases os hf
    refine cx_thr I (xr_V (vw := (RX1, TX1, 7)) (ci := 0) (σ' := σ_3) (rest := []) (As := [.int x1]) X I eu_1 rfl (mX1_rideAt hX hS ev_2) lvX1_309 hdX1_309 ⟨Nat.le_trans (Nat.le_of_ble_eq_true rfl) hR.1, Nat.le_trans (Nat.le_of_ble_eq_true rfl) hR.2⟩ rfl hl.1 rfl (Nat.le_of_ble_eq_true rfl) dX1_decline_2) (fun H locs cells slots I => ?_)
    exact x_out X XH rfl I eq_5
theorem mX1_decline {E : EV} {l : Launch} {N : Nat} {σ : St} {x0 : Nat} {x1 : Int32} {res : ((Int32 ⊕ Nat) × St)} (hX : XK E) (hS : l.stackTraces = false) (hf : fX1_decline N E.2.2.2.1 σ x0 x1 = some res) : CX E l yX1_decline (ws_ yX1_decline cX1_decline 3 (some .int)) 10 235 [.ref x0, .int x1] σ (sv (fun v => (some (.int v))) res.1) (sx res.1) res.2 := by
  refine CX.of hX.1 (by decide) rfl rfl (Nat.le_of_ble_eq_true rfl) ?_
  intro p e s m below meth c X XH I ls hl
  exact wX1_decline_0 hX ⟨Nat.le_refl _, Nat.le_refl _⟩ X XH hS N _ _ _ _ _ _ _ _ I hl hf
/-! SharedTaxisLaw.decline(LSharedTaxis;I[J)I imp=True fuel=True kap=True rt=I thr=False -/
theorem lvX0_69 : GoodIn lw_all (wsV RX0 69 RX1 yX1_decline (ws_ yX1_decline cX1_decline 3 (some .int))) := lw_V q2142 q2143 q2144 q113 q2145
theorem hdX0_69 : yX1_decline.cls = RX1 ∧ yX1_decline.cls ≠ "java/lang/invoke/MethodHandle" ∧ yX1_decline.cls ≠ "java/lang/invoke/VarHandle" ∧ (parseMethodDescriptor yX1_decline.desc).map (fun d => d.parameters.length) = some 1 := by decide +kernel
def fX0_decline (N : Nat) (κ : Nat → Nat) (σ : St) (x0 : Nat) (x1 : Int32) (x2 : Nat) : Option (Int32 × St) := (isC σ x0 0).bind fun u_1 : Unit => (fX1_decline N κ σ x0 x1).bind fun (v_2, σ_3) => se v_2 (fun v_4 => (sJ σ_3 x2 (0 : Int32) (v_4.toInt64)).bind fun σ_6 : St => some ((0 : Int32), σ_6)) (fun q_5 => (clsX σ_3 q_5).bind fun c_7 : Nat => if c_7 = 34 then some ((1 : Int32), σ_3) else none)
theorem wX0_decline_0 {E : EV} {l : Launch} {p : Program} {e : Env} {s : State} {m : MethodId} {args : Array Value} {below : List Frame} {meth : Method} {c : Code} {R : Room} {res : (Int32 × St)} (hX : XK E) (hR : 11 ≤ R.frames ∧ 257 ≤ R.locals) (X : MX E p s m args meth c cX0_decline 4 (some .int) RX0 "decline") (XH : MH c [(0, 9, 12, 18)]) (hS : l.stackTraces = false) (N : Nat) : ∀ (x0 : Nat) (x1 : Int32) (x2 : Nat) (σ : St) (H : Heap) (locs : List Loc) (cells slots : Nat) (ls : Array Slot), WI E R s σ H locs cells slots → lv_has ls 4 [(0, .ref x0), (1, .int x1), (2, .ref x2)] → fX0_decline N E.2.2.2.1 σ x0 x1 x2 = some res → W p l e R s m args below meth c H locs cells slots (vx_MQ below (QS E R.cells R.slots (some (some (.int res.1))) res.2) (XS E R.cells R.slots none res.2) args s R.cells R.slots (fr E)) (F0 m 0 ls []) := by
  intro x0 x1 x2 σ H locs cells slots ls I hl hf
  obtain ⟨⟨hx, hb, hml, hown, hts⟩, -⟩ := id X
  unfold fX0_decline at hf
  refine lv_aload_n hx hb dX0_decline_0 rfl (lv_at hl 2 rfl) ?_
  refine lv_iconst (v := 0) hx hb dX0_decline_1 (by decide) ?_
  refine lv_aload_n hx hb dX0_decline_2 rfl (lv_at hl 0 rfl) ?_
  refine lv_iload_n hx hb dX0_decline_3 rfl (lv_at hl 1 rfl) ?_
  obtain ⟨u_1, eu_1, hf⟩ := ob hf
  obtain ⟨⟨v_2, σ_3⟩, ev_2, hf⟩ := ob hf
  have hgv_2 := hf
  rcases v_2 with v_4 | q_5
  · have hf := se_l hgv_2
    refine cx_ret (r := (some (.int v_4))) (rs := [.int v_4, .int (0 : Int32), .ref x2]) I (xr_V (vw := (RX1, TX1, 7)) (ci := 0) (σ' := σ_3) (rest := [.int (0 : Int32), .ref x2]) (As := [.int x1]) X I eu_1 rfl (mX1_decline hX hS ev_2) lvX0_69 hdX0_69 ⟨Nat.le_trans (Nat.le_of_ble_eq_true rfl) hR.1, Nat.le_trans (Nat.le_of_ble_eq_true rfl) hR.2⟩ rfl hl.1 rfl (Nat.le_of_ble_eq_true rfl) dX0_decline_4) rfl (fun H locs cells slots I => ?_)
    refine lv_i2l hx hb dX0_decline_7 rfl ?_
    obtain ⟨σ_6, eσ_6, hf⟩ := ob hf
    refine g_last X I eσ_6 dX0_decline_8 (fun H locs I => ?_)
    refine lv_goto (tgt := 15) hx hb dX0_decline_9 (by decide) ?_
    refine lv_iconst (v := 0) hx hb dX0_decline_15 (by decide) ?_
    cases os hf
    exact x_ret (r_iret X I dX0_decline_16)
  · have hf := se_r hgv_2
    obtain ⟨c_7, ec_7, hf⟩ := ob hf
    refine cx_thr I (xr_V (vw := (RX1, TX1, 7)) (ci := 0) (σ' := σ_3) (rest := [.int (0 : Int32), .ref x2]) (As := [.int x1]) X I eu_1 rfl (mX1_decline hX hS ev_2) lvX0_69 hdX0_69 ⟨Nat.le_trans (Nat.le_of_ble_eq_true rfl) hR.1, Nat.le_trans (Nat.le_of_ble_eq_true rfl) hR.2⟩ rfl hl.1 rfl (Nat.le_of_ble_eq_true rfl) dX0_decline_4) (fun H locs cells slots I => ?_)
    by_cases cc_7_E22 : c_7 = 34
    · have hf := ip cc_7_E22 hf
      refine x_catch (vw := (RJ22, TJ22, 0)) hX X XH I (cc_7_E22 ▸ ec_7) rfl ((tableOf [(0, 9, 12, 18)]).take 0) _ _ rfl (fun z hz => nomatch hz) rfl (by decide) q1558 q417 ?_
      refine lv_astore_n (lv' := [(3, .ref q_5), (0, .ref x0), (1, .int x1), (2, .ref x2)]) hx hb dX0_decline_12 rfl hl (by decide) rfl (fun ls hl => ?_)
      refine lv_iconst (v := 1) hx hb dX0_decline_13 (by decide) ?_
      cases os hf
      exact x_ret (r_iret X I dX0_decline_14)
    · have hf := im cc_7_E22 hf
      exact nomatch hf
theorem mX0_decline {E : EV} {l : Launch} {N : Nat} {σ : St} {x0 : Nat} {x1 : Int32} {x2 : Nat} {res : (Int32 × St)} (hX : XK E) (hS : l.stackTraces = false) (hf : fX0_decline N E.2.2.2.1 σ x0 x1 x2 = some res) : CX E l yX0_decline (wsW_ yX0_decline cX0_decline 4 (some .int) [(0, 9, 12, 18)]) 11 257 [.ref x0, .int x1, .ref x2] σ (some (some (.int res.1))) none res.2 := by
  refine CX.ofH hX.1 (by decide) rfl rfl (Nat.le_of_ble_eq_true rfl) ?_
  intro p e s m below meth c X XH I ls hl
  exact wX0_decline_0 hX ⟨Nat.le_refl _, Nat.le_refl _⟩ X XH hS N _ _ _ _ _ _ _ _ _ I hl hf
/-! SharedTaxis$Taxi.isOnWayTo(I)Z imp=False fuel=False kap=False rt=I thr=False -/
theorem lvX12_99_J2 : GoodIn lw_all (va_wsF RX12 99 RJ2 ⟨"java/util/List", "get", "(I)Ljava/lang/Object;"⟩ yJ2_get (ws_ yJ2_get cJ2_get 2 (some (.object "java/lang/Object")))) ∧ (RJ2, ⟨"java/util/List", "get", "(I)Ljava/lang/Object;"⟩, yJ2_get) ∈ FWL := ⟨lw_good (List.forall_mem_cons.mpr ⟨q2158, List.forall_mem_cons.mpr ⟨q489, List.forall_mem_cons.mpr ⟨q491, List.forall_mem_cons.mpr ⟨q118, fun w h => (lw_meth q493 w h).1⟩⟩⟩⟩), List.mem_of_getElem? (i := 10) rfl⟩
theorem hdX12_99_J2 : (⟨"java/util/List", "get", "(I)Ljava/lang/Object;"⟩ : MethodName).cls ≠ "java/lang/invoke/MethodHandle" ∧ (⟨"java/util/List", "get", "(I)Ljava/lang/Object;"⟩ : MethodName).cls ≠ "java/lang/invoke/VarHandle" ∧ (parseMethodDescriptor (⟨"java/util/List", "get", "(I)Ljava/lang/Object;"⟩ : MethodName).desc).map (fun d => d.parameters.length) = some 1 := by decide +kernel
theorem gfX12_89 : ∀ q ∈ ([(13, 0)] : List (Nat × Nat)), GN RX12 89 q := List.forall_mem_cons.mpr ⟨⟨RX15, TX15, 2, _, rfl, in_X15, by decide, q1819⟩, fun _ h => by cases h⟩
theorem gfX12_92 : ∀ q ∈ ([(13, 1)] : List (Nat × Nat)), GN RX12 92 q := List.forall_mem_cons.mpr ⟨⟨RX15, TX15, 2, _, rfl, in_X15, by decide, q1824⟩, fun _ h => by cases h⟩
def fX12_isOnWayTo (σ : St) (x0 : Nat) (x1 : Int32) : Option Int32 := (gI σ x0 [(10, 6)]).bind fun v_1 : Int32 => if v_1 = (-1 : Int32) then some (0 : Int32) else (gR σ x0 [(10, 7)]).bind fun v_2 : Option Nat => (v_2).bind fun a_3 : Nat => (isC σ a_3 21).bind fun u_4 : Unit => (fJ2_get σ a_3 (0 : Int32)).bind fun v_5 : Option Nat => (v_5).bind fun a_7 : Nat => (isC σ a_7 13).bind fun u_8 : Unit => (gI σ a_7 [(13, 0)]).bind fun v_9 : Int32 => if v_9 = x1 then (gR σ x0 [(10, 7)]).bind fun v_10 : Option Nat => (v_10).bind fun a_11 : Nat => (isC σ a_11 21).bind fun u_12 : Unit => (fJ2_get σ a_11 (0 : Int32)).bind fun v_13 : Option Nat => (v_13).bind fun a_15 : Nat => (isC σ a_15 13).bind fun u_16 : Unit => (gI σ a_15 [(13, 1)]).bind fun v_17 : Int32 => if v_17 = 0 then some (0 : Int32) else some (1 : Int32) else some (0 : Int32)
theorem wX12_isOnWayTo_0 {E : EV} {l : Launch} {p : Program} {e : Env} {s : State} {m : MethodId} {args : Array Value} {below : List Frame} {meth : Method} {c : Code} {R : Room} {σ : St} {res : Int32} (hX : XK E) (hR : 3 ≤ R.frames ∧ 64 ≤ R.locals) (X : MX E p s m args meth c cX12_isOnWayTo 2 (some .boolean) RX12 "isOnWayTo") : ∀ (x0 : Nat) (x1 : Int32) (H : Heap) (locs : List Loc) (cells slots : Nat) (ls : Array Slot), WI E R s σ H locs cells slots → lv_has ls 2 [(0, .ref x0), (1, .int x1)] → fX12_isOnWayTo σ x0 x1 = some res → W p l e R s m args below meth c H locs cells slots (MQ below (Qd E R.cells R.slots (some (.int res)) σ) args s R.cells R.slots (fr E)) (F0 m 0 ls []) := by
  intro x0 x1 H locs cells slots ls I hl hf
  obtain ⟨⟨hx, hb, hml, hown, hts⟩, -⟩ := id X
  unfold fX12_isOnWayTo at hf
  refine lv_aload_n hx hb dX12_isOnWayTo_0 rfl (lv_at hl 0 rfl) ?_
  obtain ⟨v_1, ev_1, hf⟩ := ob hf
  refine g_get X I gfX12_9 (gI_in ev_1) dX12_isOnWayTo_1 ?_
  refine lv_iconst (v := (-1)) hx hb dX12_isOnWayTo_4 (by decide) ?_
  refine lv_icmp_eq (tgt := 51) hx hb dX12_isOnWayTo_5 (by decide) (fun c_5 => ?_) (fun c_5 => ?_)
  · have hf := ip c_5 hf
    refine lv_iconst (v := 0) hx hb dX12_isOnWayTo_51 (by decide) ?_
    cases os hf
    exact r_zret X I (Or.inl rfl) dX12_isOnWayTo_52
  · have hf := im c_5 hf
    refine lv_aload_n hx hb dX12_isOnWayTo_8 rfl (lv_at hl 0 rfl) ?_
    obtain ⟨v_2, ev_2, hf⟩ := ob hf
    refine g_get X I gfX12_18 (gR_in ev_2) dX12_isOnWayTo_9 ?_
    refine lv_iconst (v := 0) hx hb dX12_isOnWayTo_12 (by decide) ?_
    obtain ⟨a_3, ea_3, hga_3⟩ := ob hf
    have hla_3 := hl
    have Ia_3 := I
    subst ea_3
    have hf := hga_3
    have hl := hla_3
    have I := Ia_3
    obtain ⟨u_4, eu_4, hf⟩ := ob hf
    obtain ⟨v_5, ev_5, hf⟩ := ob hf
    refine cg_F (vw := (RJ2, TJ2, 3)) (ci := 21) (r := (some (va_rf v_5))) (σ' := σ) (rs := [va_rf v_5]) (rest := []) (As := [.int (0 : Int32)]) hX X I eu_4 rfl (mJ2_get hX ev_5) lvX12_99_J2 hdX12_99_J2 ⟨Nat.le_trans (Nat.le_of_ble_eq_true rfl) hR.1, Nat.le_trans (Nat.le_of_ble_eq_true rfl) hR.2⟩ rfl hl.1 rfl (Nat.le_of_ble_eq_true rfl) rfl dX12_isOnWayTo_13 (fun H locs cells slots I => ?_)
    obtain ⟨a_7, ea_7, hga_7⟩ := ob hf
    have hla_7 := hl
    have Ia_7 := I
    subst ea_7
    have hf := hga_7
    have hl := hla_7
    have I := Ia_7
    obtain ⟨u_8, eu_8, hf⟩ := ob hf
    refine g_cast (vw := (RX15, TX15, 2)) X I rfl q2159 eu_8 dX12_isOnWayTo_18 ?_
    obtain ⟨v_9, ev_9, hf⟩ := ob hf
    refine g_getN hX X I gfX12_89 (gI_in ev_9) dX12_isOnWayTo_21 ?_
    refine lv_iload_n hx hb dX12_isOnWayTo_24 rfl (lv_at hl 1 rfl) ?_
    refine lv_icmp_ne (tgt := 51) hx hb dX12_isOnWayTo_25 (by decide) (fun c_25 => ?_) (fun c_25 => ?_)
    · have hf := im c_25 hf
      refine lv_iconst (v := 0) hx hb dX12_isOnWayTo_51 (by decide) ?_
      cases os hf
      exact r_zret X I (Or.inl rfl) dX12_isOnWayTo_52
    · have hf := ip c_25 hf
      refine lv_aload_n hx hb dX12_isOnWayTo_28 rfl (lv_at hl 0 rfl) ?_
      obtain ⟨v_10, ev_10, hf⟩ := ob hf
      refine g_get X I gfX12_18 (gR_in ev_10) dX12_isOnWayTo_29 ?_
      refine lv_iconst (v := 0) hx hb dX12_isOnWayTo_32 (by decide) ?_
      obtain ⟨a_11, ea_11, hga_11⟩ := ob hf
      have hla_11 := hl
      have Ia_11 := I
      subst ea_11
      have hf := hga_11
      have hl := hla_11
      have I := Ia_11
      obtain ⟨u_12, eu_12, hf⟩ := ob hf
      obtain ⟨v_13, ev_13, hf⟩ := ob hf
      refine cg_F (vw := (RJ2, TJ2, 3)) (ci := 21) (r := (some (va_rf v_13))) (σ' := σ) (rs := [va_rf v_13]) (rest := []) (As := [.int (0 : Int32)]) hX X I eu_12 rfl (mJ2_get hX ev_13) lvX12_99_J2 hdX12_99_J2 ⟨Nat.le_trans (Nat.le_of_ble_eq_true rfl) hR.1, Nat.le_trans (Nat.le_of_ble_eq_true rfl) hR.2⟩ rfl hl.1 rfl (Nat.le_of_ble_eq_true rfl) rfl dX12_isOnWayTo_33 (fun H locs cells slots I => ?_)
      obtain ⟨a_15, ea_15, hga_15⟩ := ob hf
      have hla_15 := hl
      have Ia_15 := I
      subst ea_15
      have hf := hga_15
      have hl := hla_15
      have I := Ia_15
      obtain ⟨u_16, eu_16, hf⟩ := ob hf
      refine g_cast (vw := (RX15, TX15, 2)) X I rfl q2159 eu_16 dX12_isOnWayTo_38 ?_
      obtain ⟨v_17, ev_17, hf⟩ := ob hf
      refine g_getN hX X I gfX12_92 (gI_in ev_17) dX12_isOnWayTo_41 ?_
      refine lv_if_eq (tgt := 51) hx hb dX12_isOnWayTo_44 (by decide) (fun c_44 => ?_) (fun c_44 => ?_)
      · have hf := ip c_44 hf
        refine lv_iconst (v := 0) hx hb dX12_isOnWayTo_51 (by decide) ?_
        cases os hf
        exact r_zret X I (Or.inl rfl) dX12_isOnWayTo_52
      · have hf := im c_44 hf
        refine lv_iconst (v := 1) hx hb dX12_isOnWayTo_47 (by decide) ?_
        refine lv_goto (tgt := 52) hx hb dX12_isOnWayTo_48 (by decide) ?_
        cases os hf
        exact r_zret X I (Or.inr rfl) dX12_isOnWayTo_52
theorem mX12_isOnWayTo {E : EV} {l : Launch} {σ : St} {x0 : Nat} {x1 : Int32} {res : Int32} (hX : XK E) (hf : fX12_isOnWayTo σ x0 x1 = some res) : CM E l yX12_isOnWayTo (ws_ yX12_isOnWayTo cX12_isOnWayTo 2 (some .boolean)) 3 64 [.ref x0, .int x1] σ (some (.int res)) σ := by
  refine CM.of hX.1 (by decide) rfl rfl (Nat.le_of_ble_eq_true rfl) ?_
  intro p e s m below meth c X I ls hl
  exact wX12_isOnWayTo_0 hX ⟨Nat.le_refl _, Nat.le_refl _⟩ X _ _ _ _ _ _ _ I hl hf
/-! java/util/ArrayList.remove(I)Ljava/lang/Object; imp=True fuel=False kap=False rt=O thr=False -/
def fJ2_remove_2 (σ : St) (x0 : Nat) (x1 : Int32) : Option ((Option Nat) × St) := (gI σ x0 [(21, 2)]).bind fun v_1 : Int32 => (fJ20_checkIndex σ x1 v_1).bind fun v_2 : Int32 => (gR σ x0 [(21, 1)]).bind fun v_4 : Option Nat => (v_4).bind fun a_5 : Nat => (aR σ a_5 3 x1).bind fun v_6 : Option Nat => (isC σ x0 21).bind fun u_7 : Unit => (fJ2_fastRemove σ x0 a_5 x1).bind fun σ_9 : St => some ((v_6), σ_9)
theorem wJ2_remove_2_0 {E : EV} {l : Launch} {p : Program} {e : Env} {s : State} {m : MethodId} {args : Array Value} {below : List Frame} {meth : Method} {c : Code} {R : Room} {res : ((Option Nat) × St)} (hX : XK E) (hR : 2 ≤ R.frames ∧ 63 ≤ R.locals) (X : MX E p s m args meth c cJ2_remove_2 4 (some (.object "java/lang/Object")) RJ2 "remove") : ∀ (x0 : Nat) (x1 : Int32) (σ : St) (H : Heap) (locs : List Loc) (cells slots : Nat) (ls : Array Slot), WI E R s σ H locs cells slots → lv_has ls 4 [(0, .ref x0), (1, .int x1)] → fJ2_remove_2 σ x0 x1 = some res → W p l e R s m args below meth c H locs cells slots (MQ below (Qd E R.cells R.slots (some (va_rf res.1)) res.2) args s R.cells R.slots (fr E)) (F0 m 0 ls []) := by
  intro x0 x1 σ H locs cells slots ls I hl hf
  obtain ⟨⟨hx, hb, hml, hown, hts⟩, -⟩ := id X
  unfold fJ2_remove_2 at hf
  refine lv_iload_n hx hb dJ2_remove_2_0 rfl (lv_at hl 1 rfl) ?_
  refine lv_aload_n hx hb dJ2_remove_2_1 rfl (lv_at hl 0 rfl) ?_
  obtain ⟨v_1, ev_1, hf⟩ := ob hf
  refine g_get X I gfJ2_48 (gI_in ev_1) dJ2_remove_2_2 ?_
  obtain ⟨v_2, ev_2, hf⟩ := ob hf
  refine cg_S (r := (some (.int v_2))) (σ' := σ) (rs := [.int v_2]) (rest := []) (As := [.int x1, .int v_1]) X I (mJ20_checkIndex hX ev_2) lvJ2_118 hdJ2_118 ⟨Nat.le_trans (Nat.le_of_ble_eq_true rfl) hR.1, Nat.le_trans (Nat.le_of_ble_eq_true rfl) hR.2⟩ rfl hl.1 rfl (Nat.le_of_ble_eq_true rfl) rfl dJ2_remove_2_5 (fun H locs cells slots I => ?_)
  refine lv_pop hx hb dJ2_remove_2_8 rfl ?_
  refine lv_aload_n hx hb dJ2_remove_2_9 rfl (lv_at hl 0 rfl) ?_
  obtain ⟨v_4, ev_4, hf⟩ := ob hf
  refine g_get X I gfJ2_9 (gR_in ev_4) dJ2_remove_2_10 ?_
  refine lo_astore_n (x := v_4) (lv' := [(2, va_rf v_4), (0, .ref x0), (1, .int x1)]) hx hb dJ2_remove_2_13 rfl hl (by decide) rfl (fun ls hl => ?_)
  refine lo_aload_n (x := v_4) hx hb dJ2_remove_2_14 rfl (lv_at hl 0 rfl) ?_
  refine lv_iload_n hx hb dJ2_remove_2_15 rfl (lv_at hl 2 rfl) ?_
  obtain ⟨a_5, ea_5, hga_5⟩ := ob hf
  have hla_5 := hl
  have Ia_5 := I
  subst ea_5
  have hf := hga_5
  have hl := hla_5
  have I := Ia_5
  obtain ⟨v_6, ev_6, hf⟩ := ob hf
  refine g_aald X I (by decide) rfl ev_6 dJ2_remove_2_16 ?_
  refine lo_astore_n (x := v_6) (lv' := [(3, va_rf v_6), (2, .ref a_5), (0, .ref x0), (1, .int x1)]) hx hb dJ2_remove_2_17 rfl hl (by decide) rfl (fun ls hl => ?_)
  refine lv_aload_n hx hb dJ2_remove_2_18 rfl (lv_at hl 2 rfl) ?_
  refine lv_aload_n hx hb dJ2_remove_2_19 rfl (lv_at hl 1 rfl) ?_
  refine lv_iload_n hx hb dJ2_remove_2_20 rfl (lv_at hl 3 rfl) ?_
  obtain ⟨u_7, eu_7, hf⟩ := ob hf
  obtain ⟨σ_9, ev_8, hf⟩ := ob hf
  refine cg_V (vw := (RJ2, TJ2, 3)) (ci := 21) (r := none) (σ' := σ_9) (rs := []) (rest := []) (As := [.ref a_5, .int x1]) X I eu_7 rfl (mJ2_fastRemove hX ev_8) lvJ2_144 hdJ2_144 ⟨Nat.le_trans (Nat.le_of_ble_eq_true rfl) hR.1, Nat.le_trans (Nat.le_of_ble_eq_true rfl) hR.2⟩ rfl hl.1 rfl (Nat.le_of_ble_eq_true rfl) rfl dJ2_remove_2_21 (fun H locs cells slots I => ?_)
  refine lo_aload_n (x := v_6) hx hb dJ2_remove_2_24 rfl (lv_at hl 0 rfl) ?_
  cases os hf
  exact r_aret X I (Or.inl ⟨_, rfl⟩) (rf_or _) dJ2_remove_2_25
theorem mJ2_remove_2 {E : EV} {l : Launch} {σ : St} {x0 : Nat} {x1 : Int32} {res : ((Option Nat) × St)} (hX : XK E) (hf : fJ2_remove_2 σ x0 x1 = some res) : CM E l yJ2_remove_2 (ws_ yJ2_remove_2 cJ2_remove_2 4 (some (.object "java/lang/Object"))) 2 63 [.ref x0, .int x1] σ (some (va_rf res.1)) res.2 := by
  refine CM.of hX.1 (by decide) rfl rfl (Nat.le_of_ble_eq_true rfl) ?_
  intro p e s m below meth c X I ls hl
  exact wJ2_remove_2_0 hX ⟨Nat.le_refl _, Nat.le_refl _⟩ X _ _ _ _ _ _ _ _ I hl hf
/-! java/util/ArrayList$Itr.remove()V imp=True fuel=False kap=False rt=None thr=False -/
theorem gfJ21_13 : ∀ q ∈ ([(28, 1)] : List (Nat × Nat)), GF RJ21 13 q := List.forall_mem_cons.mpr ⟨⟨RJ21, TJ21, 4, _, rfl, in_J21, by decide, q355, Or.inl rfl⟩, fun _ h => by cases h⟩
theorem lvJ21_47 : GoodIn lw_all (wsV RJ21 47 RJ2 yJ2_remove_2 (ws_ yJ2_remove_2 cJ2_remove_2 4 (some (.object "java/lang/Object")))) := lw_V q2212 q2213 q2214 q118 q2215
theorem hdJ21_47 : yJ2_remove_2.cls = RJ2 ∧ yJ2_remove_2.cls ≠ "java/lang/invoke/MethodHandle" ∧ yJ2_remove_2.cls ≠ "java/lang/invoke/VarHandle" ∧ (parseMethodDescriptor yJ2_remove_2.desc).map (fun d => d.parameters.length) = some 1 := by decide +kernel
def fJ21_remove (σ : St) (x0 : Nat) : Option St := (gI σ x0 [(28, 1)]).bind fun v_1 : Int32 => if 0 ≤ v_1 then (isC σ x0 28).bind fun u_2 : Unit => (fJ21_checkForComodification σ x0).bind fun v_3 : Unit => (gR σ x0 [(28, 3)]).bind fun v_5 : Option Nat => (gI σ x0 [(28, 1)]).bind fun v_6 : Int32 => (v_5).bind fun a_7 : Nat => (isC σ a_7 21).bind fun u_8 : Unit => (fJ2_remove_2 σ a_7 v_6).bind fun (v_9, σ_10) => (gI σ_10 x0 [(28, 1)]).bind fun v_11 : Int32 => (pV σ_10 x0 [(28, 0)] (.int v_11)).bind fun σ_12 : St => (pV σ_12 x0 [(28, 1)] (.int (-1 : Int32))).bind fun σ_13 : St => (gR σ_13 x0 [(28, 3)]).bind fun v_14 : Option Nat => (v_14).bind fun a_15 : Nat => (gI σ_13 a_15 [(21, 0)]).bind fun v_16 : Int32 => (pV σ_13 x0 [(28, 2)] (.int v_16)).bind fun σ_17 : St => some σ_17 else none
theorem wJ21_remove_0 {E : EV} {l : Launch} {p : Program} {e : Env} {s : State} {m : MethodId} {args : Array Value} {below : List Frame} {meth : Method} {c : Code} {R : Room} {res : St} (hX : XK E) (hR : 3 ≤ R.frames ∧ 86 ≤ R.locals) (X : MX E p s m args meth c cJ21_remove 2 none RJ21 "remove") (XH : MH c [(19, 55, 58, 51)]) : ∀ (x0 : Nat) (σ : St) (H : Heap) (locs : List Loc) (cells slots : Nat) (ls : Array Slot), WI E R s σ H locs cells slots → lv_has ls 2 [(0, .ref x0)] → fJ21_remove σ x0 = some res → W p l e R s m args below meth c H locs cells slots (vx_MQ below (QS E R.cells R.slots (some none) res) (XS E R.cells R.slots none res) args s R.cells R.slots (fr E)) (F0 m 0 ls []) := by
  intro x0 σ H locs cells slots ls I hl hf
  obtain ⟨⟨hx, hb, hml, hown, hts⟩, -⟩ := id X
  unfold fJ21_remove at hf
  refine lv_aload_n hx hb dJ21_remove_0 rfl (lv_at hl 0 rfl) ?_
  obtain ⟨v_1, ev_1, hf⟩ := ob hf
  refine g_get X I gfJ21_13 (gI_in ev_1) dJ21_remove_1 ?_
  refine lv_if_ge (tgt := 15) hx hb dJ21_remove_4 (by decide) (fun c_4 => ?_) (fun c_4 => ?_)
  · have hf := ip c_4 hf
    refine lv_aload_n hx hb dJ21_remove_15 rfl (lv_at hl 0 rfl) ?_
    obtain ⟨u_2, eu_2, hf⟩ := ob hf
    obtain ⟨v_3, ev_3, hf⟩ := ob hf
    refine cg_V (vw := (RJ21, TJ21, 4)) (ci := 28) (r := none) (σ' := σ) (rs := []) (rest := []) (As := []) X I eu_2 rfl (mJ21_checkForComodification hX ev_3) lvJ21_31 hdJ21_31 ⟨Nat.le_trans (Nat.le_of_ble_eq_true rfl) hR.1, Nat.le_trans (Nat.le_of_ble_eq_true rfl) hR.2⟩ rfl hl.1 rfl (Nat.le_of_ble_eq_true rfl) rfl dJ21_remove_16 (fun H locs cells slots I => ?_)
    refine lv_aload_n hx hb dJ21_remove_19 rfl (lv_at hl 0 rfl) ?_
    obtain ⟨v_5, ev_5, hf⟩ := ob hf
    refine g_get X I gfJ21_1 (gR_in ev_5) dJ21_remove_20 ?_
    refine lv_aload_n hx hb dJ21_remove_23 rfl (lv_at hl 0 rfl) ?_
    obtain ⟨v_6, ev_6, hf⟩ := ob hf
    refine g_get X I gfJ21_13 (gI_in ev_6) dJ21_remove_24 ?_
    obtain ⟨a_7, ea_7, hga_7⟩ := ob hf
    have hla_7 := hl
    have Ia_7 := I
    subst ea_7
    have hf := hga_7
    have hl := hla_7
    have I := Ia_7
    obtain ⟨u_8, eu_8, hf⟩ := ob hf
    obtain ⟨⟨v_9, σ_10⟩, ev_9, hf⟩ := ob hf
    refine cg_V (vw := (RJ2, TJ2, 3)) (ci := 21) (r := (some (va_rf v_9))) (σ' := σ_10) (rs := [va_rf v_9]) (rest := []) (As := [.int v_6]) X I eu_8 rfl (mJ2_remove_2 hX ev_9) lvJ21_47 hdJ21_47 ⟨Nat.le_trans (Nat.le_of_ble_eq_true rfl) hR.1, Nat.le_trans (Nat.le_of_ble_eq_true rfl) hR.2⟩ rfl hl.1 rfl (Nat.le_of_ble_eq_true rfl) rfl dJ21_remove_27 (fun H locs cells slots I => ?_)
    refine lv_pop hx hb dJ21_remove_30 (rf_cat _) ?_
    refine lv_aload_n hx hb dJ21_remove_31 rfl (lv_at hl 0 rfl) ?_
    refine lv_aload_n hx hb dJ21_remove_32 rfl (lv_at hl 0 rfl) ?_
    obtain ⟨v_11, ev_11, hf⟩ := ob hf
    refine g_get X I gfJ21_13 (gI_in ev_11) dJ21_remove_33 ?_
    obtain ⟨σ_12, eσ_12, hf⟩ := ob hf
    refine g_put X I pfJ21_25 rfl rfl eσ_12 dJ21_remove_36 (fun H locs I => ?_)
    refine lv_aload_n hx hb dJ21_remove_39 rfl (lv_at hl 0 rfl) ?_
    refine lv_iconst (v := (-1)) hx hb dJ21_remove_40 (by decide) ?_
    obtain ⟨σ_13, eσ_13, hf⟩ := ob hf
    refine g_put X I pfJ21_13 rfl rfl eσ_13 dJ21_remove_41 (fun H locs I => ?_)
    refine lv_aload_n hx hb dJ21_remove_44 rfl (lv_at hl 0 rfl) ?_
    refine lv_aload_n hx hb dJ21_remove_45 rfl (lv_at hl 0 rfl) ?_
    obtain ⟨v_14, ev_14, hf⟩ := ob hf
    refine g_get X I gfJ21_1 (gR_in ev_14) dJ21_remove_46 ?_
    obtain ⟨a_15, ea_15, hga_15⟩ := ob hf
    have hla_15 := hl
    have Ia_15 := I
    subst ea_15
    have hf := hga_15
    have hl := hla_15
    have I := Ia_15
    obtain ⟨v_16, ev_16, hf⟩ := ob hf
    refine g_get X I gfJ21_17 (gI_in ev_16) dJ21_remove_49 ?_
    obtain ⟨σ_17, eσ_17, hf⟩ := ob hf
    refine g_put X I pfJ21_22 rfl rfl eσ_17 dJ21_remove_52 (fun H locs I => ?_)
    refine lv_goto (tgt := 67) hx hb dJ21_remove_55 (by decide) ?_
    cases os hf
    exact x_ret (r_vret X I dJ21_remove_67)
  · have hf := im c_4 hf
    exact nomatch hf
theorem mJ21_remove {E : EV} {l : Launch} {σ : St} {x0 : Nat} {res : St} (hX : XK E) (hf : fJ21_remove σ x0 = some res) : CX E l yJ21_remove (wsW_ yJ21_remove cJ21_remove 2 none [(19, 55, 58, 51)]) 3 86 [.ref x0] σ (some none) none res := by
  refine CX.ofH hX.1 (by decide) rfl rfl (Nat.le_of_ble_eq_true rfl) ?_
  intro p e s m below meth c X XH I ls hl
  exact wJ21_remove_0 hX ⟨Nat.le_refl _, Nat.le_refl _⟩ X XH _ _ _ _ _ _ _ I hl hf
/-! SharedTaxis$Taxi.remove(IZ)V imp=True fuel=True kap=False rt=None thr=False -/
theorem lvX12_96_J21 : GoodIn lw_all (va_wsF RX12 96 RJ21 ⟨"java/util/Iterator", "remove", "()V"⟩ yJ21_remove (wsW_ yJ21_remove cJ21_remove 2 none [(19, 55, 58, 51)])) ∧ (RJ21, ⟨"java/util/Iterator", "remove", "()V"⟩, yJ21_remove) ∈ FWL := ⟨lw_good (List.forall_mem_cons.mpr ⟨q2171, List.forall_mem_cons.mpr ⟨q2192, List.forall_mem_cons.mpr ⟨q2194, List.forall_mem_cons.mpr ⟨q147, fun w h => (lw_methW q2196 w h).1⟩⟩⟩⟩), List.mem_of_getElem? (i := 19) rfl⟩
theorem hdX12_96_J21 : (⟨"java/util/Iterator", "remove", "()V"⟩ : MethodName).cls ≠ "java/lang/invoke/MethodHandle" ∧ (⟨"java/util/Iterator", "remove", "()V"⟩ : MethodName).cls ≠ "java/lang/invoke/VarHandle" ∧ (parseMethodDescriptor (⟨"java/util/Iterator", "remove", "()V"⟩ : MethodName).desc).map (fun d => d.parameters.length) = some 0 := by decide +kernel
theorem lvX12_77_J21 : GoodIn lw_all (va_wsF RX12 77 RJ21 ⟨"java/util/Iterator", "hasNext", "()Z"⟩ yJ21_hasNext (ws_ yJ21_hasNext cJ21_hasNext 1 (some .boolean))) ∧ (RJ21, ⟨"java/util/Iterator", "hasNext", "()Z"⟩, yJ21_hasNext) ∈ FWL := ⟨lw_good (List.forall_mem_cons.mpr ⟨q2167, List.forall_mem_cons.mpr ⟨q393, List.forall_mem_cons.mpr ⟨q395, List.forall_mem_cons.mpr ⟨q147, fun w h => (lw_meth q397 w h).1⟩⟩⟩⟩), List.mem_of_getElem? (i := 17) rfl⟩
theorem hdX12_77_J21 : (⟨"java/util/Iterator", "hasNext", "()Z"⟩ : MethodName).cls ≠ "java/lang/invoke/MethodHandle" ∧ (⟨"java/util/Iterator", "hasNext", "()Z"⟩ : MethodName).cls ≠ "java/lang/invoke/VarHandle" ∧ (parseMethodDescriptor (⟨"java/util/Iterator", "hasNext", "()Z"⟩ : MethodName).desc).map (fun d => d.parameters.length) = some 0 := by decide +kernel
theorem lvX12_83_J21 : GoodIn lw_all (va_wsF RX12 83 RJ21 ⟨"java/util/Iterator", "next", "()Ljava/lang/Object;"⟩ yJ21_next (ws_ yJ21_next cJ21_next 3 (some (.object "java/lang/Object")))) ∧ (RJ21, ⟨"java/util/Iterator", "next", "()Ljava/lang/Object;"⟩, yJ21_next) ∈ FWL := ⟨lw_good (List.forall_mem_cons.mpr ⟨q2169, List.forall_mem_cons.mpr ⟨q789, List.forall_mem_cons.mpr ⟨q791, List.forall_mem_cons.mpr ⟨q147, fun w h => (lw_meth q793 w h).1⟩⟩⟩⟩), List.mem_of_getElem? (i := 18) rfl⟩
theorem hdX12_83_J21 : (⟨"java/util/Iterator", "next", "()Ljava/lang/Object;"⟩ : MethodName).cls ≠ "java/lang/invoke/MethodHandle" ∧ (⟨"java/util/Iterator", "next", "()Ljava/lang/Object;"⟩ : MethodName).cls ≠ "java/lang/invoke/VarHandle" ∧ (parseMethodDescriptor (⟨"java/util/Iterator", "next", "()Ljava/lang/Object;"⟩ : MethodName).desc).map (fun d => d.parameters.length) = some 0 := by decide +kernel
theorem lvX12_73_J2 : GoodIn lw_all (va_wsF RX12 73 RJ2 ⟨"java/util/List", "iterator", "()Ljava/util/Iterator;"⟩ yJ2_iterator (ws_ yJ2_iterator cJ2_iterator 1 (some (.object "java/util/Iterator")))) ∧ (RJ2, ⟨"java/util/List", "iterator", "()Ljava/util/Iterator;"⟩, yJ2_iterator) ∈ FWL := ⟨lw_good (List.forall_mem_cons.mpr ⟨q2165, List.forall_mem_cons.mpr ⟨q343, List.forall_mem_cons.mpr ⟨q345, List.forall_mem_cons.mpr ⟨q118, fun w h => (lw_meth q347 w h).1⟩⟩⟩⟩), List.mem_of_getElem? (i := 13) rfl⟩
theorem hdX12_73_J2 : (⟨"java/util/List", "iterator", "()Ljava/util/Iterator;"⟩ : MethodName).cls ≠ "java/lang/invoke/MethodHandle" ∧ (⟨"java/util/List", "iterator", "()Ljava/util/Iterator;"⟩ : MethodName).cls ≠ "java/lang/invoke/VarHandle" ∧ (parseMethodDescriptor (⟨"java/util/List", "iterator", "()Ljava/util/Iterator;"⟩ : MethodName).desc).map (fun d => d.parameters.length) = some 0 := by decide +kernel
def fX12_remove_51 (N : Nat) (r10 : Int32 → Int32 → Nat → St → Option St) (x1 : Int32) (x2 : Int32) (x3 : Nat) (σ : St) : Option St := (isC σ x3 28).bind fun u_1 : Unit => (fJ21_remove σ x3).bind fun σ_3 : St => r10 x1 x2 x3 σ_3
def fX12_remove_10 (N : Nat) : Nat → Int32 → Int32 → Nat → St → Option St
  | 0, _, _, _, _ => none
  | n + 1, x1, x2, x3, σ => (isC σ x3 28).bind fun u_4 : Unit => (fJ21_hasNext σ x3).bind fun v_5 : Int32 => if v_5 = 0 then some σ else (isC σ x3 28).bind fun u_7 : Unit => (fJ21_next σ x3).bind fun (v_8, σ_9) => (v_8).bind fun a_10 : Nat => (isC σ_9 a_10 13).bind fun u_11 : Unit => (gI σ_9 a_10 [(13, 0)]).bind fun v_12 : Int32 => if v_12 = x1 then if x2 = 0 then fX12_remove_51 N (fX12_remove_10 N n) x1 x2 x3 σ_9 else (gI σ_9 a_10 [(13, 1)]).bind fun v_13 : Int32 => if v_13 = 0 then fX12_remove_51 N (fX12_remove_10 N n) x1 x2 x3 σ_9 else fX12_remove_10 N n x1 x2 x3 σ_9 else fX12_remove_10 N n x1 x2 x3 σ_9
def fX12_remove (N : Nat) (σ : St) (x0 : Nat) (x1 : Int32) (x2 : Int32) : Option St := (gR σ x0 [(10, 7)]).bind fun v_14 : Option Nat => (v_14).bind fun a_15 : Nat => (isC σ a_15 21).bind fun u_16 : Unit => (fJ2_iterator σ a_15).bind fun (v_17, σ_18) => fX12_remove_10 N N x1 x2 v_17 σ_18
theorem wX12_remove_51 {E : EV} {l : Launch} {p : Program} {e : Env} {s : State} {m : MethodId} {args : Array Value} {below : List Frame} {meth : Method} {c : Code} {R : Room} {res : St} (hX : XK E) (hR : 4 ≤ R.frames ∧ 107 ≤ R.locals) (X : MX E p s m args meth c cX12_remove 5 none RX12 "remove") (N : Nat) (r10 : Int32 → Int32 → Nat → St → Option St) (hr10 : ∀ (x1 : Int32) (x2 : Int32) (x3 : Nat) (σ : St) (H : Heap) (locs : List Loc) (cells slots : Nat) (ls : Array Slot), WI E R s σ H locs cells slots → lv_has ls 5 [(1, .int x1), (2, .int x2), (3, .ref x3)] → r10 x1 x2 x3 σ = some res → W p l e R s m args below meth c H locs cells slots (MQ below (Qd E R.cells R.slots none res) args s R.cells R.slots (fr E)) (F0 m 10 ls [])) : ∀ (x1 : Int32) (x2 : Int32) (x3 : Nat) (σ : St) (H : Heap) (locs : List Loc) (cells slots : Nat) (ls : Array Slot), WI E R s σ H locs cells slots → lv_has ls 5 [(1, .int x1), (2, .int x2), (3, .ref x3)] → fX12_remove_51 N r10 x1 x2 x3 σ = some res → W p l e R s m args below meth c H locs cells slots (MQ below (Qd E R.cells R.slots none res) args s R.cells R.slots (fr E)) (F0 m 51 ls []) := by
  intro x1 x2 x3 σ H locs cells slots ls I hl hf
  obtain ⟨⟨hx, hb, hml, hown, hts⟩, -⟩ := id X
  unfold fX12_remove_51 at hf
  refine lv_aload_n hx hb dX12_remove_51 rfl (lv_at hl 2 rfl) ?_
  obtain ⟨u_1, eu_1, hf⟩ := ob hf
  obtain ⟨σ_3, ev_2, hf⟩ := ob hf
  refine cx_ret5 (r := none) (rs := []) I (xr_FW (vw := (RJ21, TJ21, 4)) (ci := 28) (σ' := σ_3) (rest := []) (As := []) hX X I eu_1 rfl (mJ21_remove hX ev_2) lvX12_96_J21 hdX12_96_J21 ⟨Nat.le_trans (Nat.le_of_ble_eq_true rfl) hR.1, Nat.le_trans (Nat.le_of_ble_eq_true rfl) hR.2⟩ rfl hl.1 rfl (Nat.le_of_ble_eq_true rfl) dX12_remove_52) rfl (fun H locs cells slots I => ?_)
  refine lv_goto (tgt := 10) hx hb dX12_remove_57 (by decide) ?_
  exact hr10 x1 x2 x3 σ_3 _ _ _ _ _ I (lv_sub hl [0, 1, 2] rfl) hf
theorem wX12_remove_10 {E : EV} {l : Launch} {p : Program} {e : Env} {s : State} {m : MethodId} {args : Array Value} {below : List Frame} {meth : Method} {c : Code} {R : Room} {res : St} (hX : XK E) (hR : 4 ≤ R.frames ∧ 107 ≤ R.locals) (X : MX E p s m args meth c cX12_remove 5 none RX12 "remove") (N : Nat) : ∀ (n : Nat) (x1 : Int32) (x2 : Int32) (x3 : Nat) (σ : St) (H : Heap) (locs : List Loc) (cells slots : Nat) (ls : Array Slot), WI E R s σ H locs cells slots → lv_has ls 5 [(1, .int x1), (2, .int x2), (3, .ref x3)] → fX12_remove_10 N n x1 x2 x3 σ = some res → W p l e R s m args below meth c H locs cells slots (MQ below (Qd E R.cells R.slots none res) args s R.cells R.slots (fr E)) (F0 m 10 ls []) := by
  intro n
  induction n with
  | zero => intro x1 x2 x3 σ H locs cells slots ls I hl hf; exact nomatch (show none = some res from hf)
  | succ n ih =>
    intro x1 x2 x3 σ H locs cells slots ls I hl hf
    obtain ⟨⟨hx, hb, hml, hown, hts⟩, -⟩ := id X
    rw [fX12_remove_10.eq_2] at hf
    refine lv_aload_n hx hb dX12_remove_10 rfl (lv_at hl 2 rfl) ?_
    obtain ⟨u_4, eu_4, hf⟩ := ob hf
    obtain ⟨v_5, ev_5, hf⟩ := ob hf
    refine cg_F (vw := (RJ21, TJ21, 4)) (ci := 28) (r := (some (.int v_5))) (σ' := σ) (rs := [.int v_5]) (rest := []) (As := []) hX X I eu_4 rfl (mJ21_hasNext hX ev_5) lvX12_77_J21 hdX12_77_J21 ⟨Nat.le_trans (Nat.le_of_ble_eq_true rfl) hR.1, Nat.le_trans (Nat.le_of_ble_eq_true rfl) hR.2⟩ rfl hl.1 rfl (Nat.le_of_ble_eq_true rfl) rfl dX12_remove_11 (fun H locs cells slots I => ?_)
    refine lv_if_eq (tgt := 60) hx hb dX12_remove_16 (by decide) (fun c_16 => ?_) (fun c_16 => ?_)
    · have hf := ip c_16 hf
      cases os hf
      exact r_vret X I dX12_remove_60
    · have hf := im c_16 hf
      refine lv_aload_n hx hb dX12_remove_19 rfl (lv_at hl 2 rfl) ?_
      obtain ⟨u_7, eu_7, hf⟩ := ob hf
      obtain ⟨⟨v_8, σ_9⟩, ev_8, hf⟩ := ob hf
      refine cg_F (vw := (RJ21, TJ21, 4)) (ci := 28) (r := (some (va_rf v_8))) (σ' := σ_9) (rs := [va_rf v_8]) (rest := []) (As := []) hX X I eu_7 rfl (mJ21_next hX ev_8) lvX12_83_J21 hdX12_83_J21 ⟨Nat.le_trans (Nat.le_of_ble_eq_true rfl) hR.1, Nat.le_trans (Nat.le_of_ble_eq_true rfl) hR.2⟩ rfl hl.1 rfl (Nat.le_of_ble_eq_true rfl) rfl dX12_remove_20 (fun H locs cells slots I => ?_)
      obtain ⟨a_10, ea_10, hga_10⟩ := ob hf
      have hla_10 := hl
      have Ia_10 := I
      subst ea_10
      have hf := hga_10
      have hl := hla_10
      have I := Ia_10
      obtain ⟨u_11, eu_11, hf⟩ := ob hf
      refine g_cast (vw := (RX15, TX15, 2)) X I rfl q2159 eu_11 dX12_remove_25 ?_
      refine lv_astore (lv' := [(4, .ref a_10), (1, .int x1), (2, .int x2), (3, .ref x3)]) hx hb dX12_remove_28 hl (by decide) rfl (fun ls hl => ?_)
      refine lv_aload hx hb dX12_remove_30 (lv_at hl 0 rfl) ?_
      obtain ⟨v_12, ev_12, hf⟩ := ob hf
      refine g_getN hX X I gfX12_89 (gI_in ev_12) dX12_remove_32 ?_
      refine lv_iload_n hx hb dX12_remove_35 rfl (lv_at hl 1 rfl) ?_
      refine lv_icmp_ne (tgt := 57) hx hb dX12_remove_36 (by decide) (fun c_36 => ?_) (fun c_36 => ?_)
      · have hf := im c_36 hf
        refine lv_goto (tgt := 10) hx hb dX12_remove_57 (by decide) ?_
        exact ih x1 x2 x3 σ_9 _ _ _ _ _ I (lv_sub hl [1, 2, 3] rfl) hf
      · have hf := ip c_36 hf
        refine lv_iload_n hx hb dX12_remove_39 rfl (lv_at hl 2 rfl) ?_
        refine lv_if_eq (tgt := 51) hx hb dX12_remove_40 (by decide) (fun c_40 => ?_) (fun c_40 => ?_)
        · have hf := ip c_40 hf
          exact wX12_remove_51 hX hR X N (fX12_remove_10 N n) ih x1 x2 x3 σ_9 _ _ _ _ _ I (lv_sub hl [1, 2, 3] rfl) hf
        · have hf := im c_40 hf
          refine lv_aload hx hb dX12_remove_43 (lv_at hl 0 rfl) ?_
          obtain ⟨v_13, ev_13, hf⟩ := ob hf
          refine g_getN hX X I gfX12_92 (gI_in ev_13) dX12_remove_45 ?_
          refine lv_if_ne (tgt := 57) hx hb dX12_remove_48 (by decide) (fun c_48 => ?_) (fun c_48 => ?_)
          · have hf := im c_48 hf
            refine lv_goto (tgt := 10) hx hb dX12_remove_57 (by decide) ?_
            exact ih x1 x2 x3 σ_9 _ _ _ _ _ I (lv_sub hl [1, 2, 3] rfl) hf
          · have hf := ip c_48 hf
            exact wX12_remove_51 hX hR X N (fX12_remove_10 N n) ih x1 x2 x3 σ_9 _ _ _ _ _ I (lv_sub hl [1, 2, 3] rfl) hf
theorem wX12_remove_0 {E : EV} {l : Launch} {p : Program} {e : Env} {s : State} {m : MethodId} {args : Array Value} {below : List Frame} {meth : Method} {c : Code} {R : Room} {res : St} (hX : XK E) (hR : 4 ≤ R.frames ∧ 107 ≤ R.locals) (X : MX E p s m args meth c cX12_remove 5 none RX12 "remove") (N : Nat) : ∀ (x0 : Nat) (x1 : Int32) (x2 : Int32) (σ : St) (H : Heap) (locs : List Loc) (cells slots : Nat) (ls : Array Slot), WI E R s σ H locs cells slots → lv_has ls 5 [(0, .ref x0), (1, .int x1), (2, .int x2)] → fX12_remove N σ x0 x1 x2 = some res → W p l e R s m args below meth c H locs cells slots (MQ below (Qd E R.cells R.slots none res) args s R.cells R.slots (fr E)) (F0 m 0 ls []) := by
  intro x0 x1 x2 σ H locs cells slots ls I hl hf
  obtain ⟨⟨hx, hb, hml, hown, hts⟩, -⟩ := id X
  unfold fX12_remove at hf
  refine lv_aload_n hx hb dX12_remove_0 rfl (lv_at hl 0 rfl) ?_
  obtain ⟨v_14, ev_14, hf⟩ := ob hf
  refine g_get X I gfX12_18 (gR_in ev_14) dX12_remove_1 ?_
  obtain ⟨a_15, ea_15, hga_15⟩ := ob hf
  have hla_15 := hl
  have Ia_15 := I
  subst ea_15
  have hf := hga_15
  have hl := hla_15
  have I := Ia_15
  obtain ⟨u_16, eu_16, hf⟩ := ob hf
  obtain ⟨⟨v_17, σ_18⟩, ev_17, hf⟩ := ob hf
  refine cg_F (vw := (RJ2, TJ2, 3)) (ci := 21) (r := (some (.ref v_17))) (σ' := σ_18) (rs := [.ref v_17]) (rest := []) (As := []) hX X I eu_16 rfl (mJ2_iterator hX ev_17) lvX12_73_J2 hdX12_73_J2 ⟨Nat.le_trans (Nat.le_of_ble_eq_true rfl) hR.1, Nat.le_trans (Nat.le_of_ble_eq_true rfl) hR.2⟩ rfl hl.1 rfl (Nat.le_of_ble_eq_true rfl) rfl dX12_remove_4 (fun H locs cells slots I => ?_)
  refine lv_astore_n (lv' := [(3, .ref v_17), (0, .ref x0), (1, .int x1), (2, .int x2)]) hx hb dX12_remove_9 rfl hl (by decide) rfl (fun ls hl => ?_)
  exact wX12_remove_10 hX hR X N N x1 x2 v_17 σ_18 _ _ _ _ _ I (lv_sub hl [2, 3, 0] rfl) hf
theorem mX12_remove {E : EV} {l : Launch} {N : Nat} {σ : St} {x0 : Nat} {x1 : Int32} {x2 : Int32} {res : St} (hX : XK E) (hf : fX12_remove N σ x0 x1 x2 = some res) : CM E l yX12_remove (ws_ yX12_remove cX12_remove 5 none) 4 107 [.ref x0, .int x1, .int x2] σ none res := by
  refine CM.of hX.1 (by decide) rfl rfl (Nat.le_of_ble_eq_true rfl) ?_
  intro p e s m below meth c X I ls hl
  exact wX12_remove_0 hX ⟨Nat.le_refl _, Nat.le_refl _⟩ X N _ _ _ _ _ _ _ _ _ I hl hf
/-! SharedTaxis.cancel(I)I imp=True fuel=True kap=True rt=I thr=True -/
theorem lvX1_444 : GoodIn lw_all (wsV RX1 444 RX12 yX12_isOnWayTo (ws_ yX12_isOnWayTo cX12_isOnWayTo 2 (some .boolean))) := lw_V q2153 q2154 q2155 q145 q2156
theorem hdX1_444 : yX12_isOnWayTo.cls = RX12 ∧ yX12_isOnWayTo.cls ≠ "java/lang/invoke/MethodHandle" ∧ yX12_isOnWayTo.cls ≠ "java/lang/invoke/VarHandle" ∧ (parseMethodDescriptor yX12_isOnWayTo.desc).map (fun d => d.parameters.length) = some 1 := by decide +kernel
theorem lvX1_448 : GoodIn lw_all (wsV RX1 448 RX12 yX12_remove (ws_ yX12_remove cX12_remove 5 none)) := lw_V q2160 q2161 q2162 q145 q2163
theorem hdX1_448 : yX12_remove.cls = RX12 ∧ yX12_remove.cls ≠ "java/lang/invoke/MethodHandle" ∧ yX12_remove.cls ≠ "java/lang/invoke/VarHandle" ∧ (parseMethodDescriptor yX12_remove.desc).map (fun d => d.parameters.length) = some 2 := by decide +kernel
def fX1_cancel (N : Nat) (κ : Nat → Nat) (σ : St) (x0 : Nat) (x1 : Int32) : Option ((Int32 ⊕ Nat) × St) := (isC σ x0 0).bind fun u_1 : Unit => (fX1_rideAt σ x0 x1).bind fun (v_2, σ_3) => se v_2 (fun v_4 => (gI σ_3 v_4 [(14, 8)]).bind fun v_6 : Int32 => if v_6 = (1 : Int32) then (gR σ_3 x0 [(0, 3)]).bind fun v_7 : Option Nat => (v_7).bind fun a_8 : Nat => (gR σ_3 a_8 [(1, 5)]).bind fun v_9 : Option Nat => (gI σ_3 v_4 [(14, 9)]).bind fun v_10 : Int32 => (v_9).bind fun a_11 : Nat => (isC σ_3 a_11 21).bind fun u_12 : Unit => (fJ2_get σ_3 a_11 v_10).bind fun v_13 : Option Nat => (v_13).bind fun a_15 : Nat => (isC σ_3 a_15 10).bind fun u_16 : Unit => (isC σ_3 a_15 10).bind fun u_17 : Unit => (fX12_isOnWayTo σ_3 a_15 x1).bind fun v_18 : Int32 => if v_18 = 0 then (isC σ_3 x0 0).bind fun u_20 : Unit => (fX1_beginOperation N κ σ_3 x0).bind fun (v_21, σ_22) => (isC σ_22 a_15 10).bind fun u_23 : Unit => (fX12_remove N σ_22 a_15 x1 (0 : Int32)).bind fun σ_25 : St => (pV σ_25 v_4 [(14, 8)] (.int (6 : Int32))).bind fun σ_26 : St => (gR σ_26 a_15 [(10, 7)]).bind fun v_27 : Option Nat => (v_27).bind fun a_28 : Nat => (isC σ_26 a_28 21).bind fun u_29 : Unit => (fJ2_size σ_26 a_28).bind fun v_30 : Int32 => some (.inl v_30, σ_26) else some (.inl (-3 : Int32), σ_3) else some (.inl (-2 : Int32), σ_3)) (fun q_5 => (isX σ_3 q_5).bind fun uq_5 : Unit => some (.inr q_5, σ_3))
theorem wX1_cancel_0 {E : EV} {l : Launch} {p : Program} {e : Env} {s : State} {m : MethodId} {args : Array Value} {below : List Frame} {meth : Method} {c : Code} {R : Room} {res : ((Int32 ⊕ Nat) × St)} (hX : XK E) (hR : 10 ≤ R.frames ∧ 235 ≤ R.locals) (X : MX E p s m args meth c cX1_cancel 4 (some .int) RX1 "cancel") (XH : MH c []) (hS : l.stackTraces = false) (N : Nat) : ∀ (x0 : Nat) (x1 : Int32) (σ : St) (H : Heap) (locs : List Loc) (cells slots : Nat) (ls : Array Slot), WI E R s σ H locs cells slots → lv_has ls 4 [(0, .ref x0), (1, .int x1)] → fX1_cancel N E.2.2.2.1 σ x0 x1 = some res → W p l e R s m args below meth c H locs cells slots (vx_MQ below (QS E R.cells R.slots (sv (fun v => (some (.int v))) res.1) res.2) (XS E R.cells R.slots (sx res.1) res.2) args s R.cells R.slots (fr E)) (F0 m 0 ls []) := by
  intro x0 x1 σ H locs cells slots ls I hl hf
  obtain ⟨⟨hx, hb, hml, hown, hts⟩, -⟩ := id X
  unfold fX1_cancel at hf
  refine lv_aload_n hx hb dX1_cancel_0 rfl (lv_at hl 0 rfl) ?_
  refine lv_iload_n hx hb dX1_cancel_1 rfl (lv_at hl 1 rfl) ?_
  obtain ⟨u_1, eu_1, hf⟩ := ob hf
  obtain ⟨⟨v_2, σ_3⟩, ev_2, hf⟩ := ob hf
  have hgv_2 := hf
  rcases v_2 with v_4 | q_5
  · have hf := se_l hgv_2
    refine cx_ret (r := (some (.ref v_4))) (rs := [.ref v_4]) I (xr_V (vw := (RX1, TX1, 7)) (ci := 0) (σ' := σ_3) (rest := []) (As := [.int x1]) X I eu_1 rfl (mX1_rideAt hX hS ev_2) lvX1_309 hdX1_309 ⟨Nat.le_trans (Nat.le_of_ble_eq_true rfl) hR.1, Nat.le_trans (Nat.le_of_ble_eq_true rfl) hR.2⟩ rfl hl.1 rfl (Nat.le_of_ble_eq_true rfl) dX1_cancel_2) rfl (fun H locs cells slots I => ?_)
    refine lv_astore_n (lv' := [(2, .ref v_4), (0, .ref x0), (1, .int x1)]) hx hb dX1_cancel_5 rfl hl (by decide) rfl (fun ls hl => ?_)
    refine lv_aload_n hx hb dX1_cancel_6 rfl (lv_at hl 0 rfl) ?_
    obtain ⟨v_6, ev_6, hf⟩ := ob hf
    refine g_getN hX X I gfX1_313 (gI_in ev_6) dX1_cancel_7 ?_
    refine lv_iconst (v := 1) hx hb dX1_cancel_10 (by decide) ?_
    refine lv_icmp_eq (tgt := 17) hx hb dX1_cancel_11 (by decide) (fun c_11 => ?_) (fun c_11 => ?_)
    · have hf := ip c_11 hf
      refine lv_aload_n hx hb dX1_cancel_17 rfl (lv_at hl 1 rfl) ?_
      obtain ⟨v_7, ev_7, hf⟩ := ob hf
      refine g_get X I gfX1_87 (gR_in ev_7) dX1_cancel_18 ?_
      obtain ⟨a_8, ea_8, hga_8⟩ := ob hf
      have hla_8 := hl
      have Ia_8 := I
      subst ea_8
      have hf := hga_8
      have hl := hla_8
      have I := Ia_8
      obtain ⟨v_9, ev_9, hf⟩ := ob hf
      refine g_getN hX X I gfX1_133 (gR_in ev_9) dX1_cancel_21 ?_
      refine lv_aload_n hx hb dX1_cancel_24 rfl (lv_at hl 0 rfl) ?_
      obtain ⟨v_10, ev_10, hf⟩ := ob hf
      refine g_getN hX X I gfX1_334 (gI_in ev_10) dX1_cancel_25 ?_
      obtain ⟨a_11, ea_11, hga_11⟩ := ob hf
      have hla_11 := hl
      have Ia_11 := I
      subst ea_11
      have hf := hga_11
      have hl := hla_11
      have I := Ia_11
      obtain ⟨u_12, eu_12, hf⟩ := ob hf
      obtain ⟨v_13, ev_13, hf⟩ := ob hf
      refine cg_F (vw := (RJ2, TJ2, 3)) (ci := 21) (r := (some (va_rf v_13))) (σ' := σ_3) (rs := [va_rf v_13]) (rest := []) (As := [.int v_10]) hX X I eu_12 rfl (mJ2_get hX ev_13) lvX1_140_J2 hdX1_140_J2 ⟨Nat.le_trans (Nat.le_of_ble_eq_true rfl) hR.1, Nat.le_trans (Nat.le_of_ble_eq_true rfl) hR.2⟩ rfl hl.1 rfl (Nat.le_of_ble_eq_true rfl) rfl dX1_cancel_28 (fun H locs cells slots I => ?_)
      obtain ⟨a_15, ea_15, hga_15⟩ := ob hf
      have hla_15 := hl
      have Ia_15 := I
      subst ea_15
      have hf := hga_15
      have hl := hla_15
      have I := Ia_15
      obtain ⟨u_16, eu_16, hf⟩ := ob hf
      refine g_cast (vw := (RX12, TX12, 15)) X I rfl q805 eu_16 dX1_cancel_33 ?_
      refine lv_astore_n (lv' := [(3, .ref a_15), (2, .ref v_4), (0, .ref x0), (1, .int x1)]) hx hb dX1_cancel_36 rfl hl (by decide) rfl (fun ls hl => ?_)
      refine lv_aload_n hx hb dX1_cancel_37 rfl (lv_at hl 0 rfl) ?_
      refine lv_iload_n hx hb dX1_cancel_38 rfl (lv_at hl 3 rfl) ?_
      obtain ⟨u_17, eu_17, hf⟩ := ob hf
      obtain ⟨v_18, ev_18, hf⟩ := ob hf
      refine cg_V (vw := (RX12, TX12, 15)) (ci := 10) (r := (some (.int v_18))) (σ' := σ_3) (rs := [.int v_18]) (rest := []) (As := [.int x1]) X I eu_17 rfl (mX12_isOnWayTo hX ev_18) lvX1_444 hdX1_444 ⟨Nat.le_trans (Nat.le_of_ble_eq_true rfl) hR.1, Nat.le_trans (Nat.le_of_ble_eq_true rfl) hR.2⟩ rfl hl.1 rfl (Nat.le_of_ble_eq_true rfl) rfl dX1_cancel_39 (fun H locs cells slots I => ?_)
      refine lv_if_eq (tgt := 48) hx hb dX1_cancel_42 (by decide) (fun c_42 => ?_) (fun c_42 => ?_)
      · have hf := ip c_42 hf
        refine lv_aload_n hx hb dX1_cancel_48 rfl (lv_at hl 2 rfl) ?_
        obtain ⟨u_20, eu_20, hf⟩ := ob hf
        obtain ⟨⟨v_21, σ_22⟩, ev_21, hf⟩ := ob hf
        refine cg_V (vw := (RX1, TX1, 7)) (ci := 0) (r := (some (va_rf v_21))) (σ' := σ_22) (rs := [va_rf v_21]) (rest := []) (As := []) X I eu_20 rfl (mX1_beginOperation hX ev_21) lvX1_431 hdX1_431 ⟨Nat.le_trans (Nat.le_of_ble_eq_true rfl) hR.1, Nat.le_trans (Nat.le_of_ble_eq_true rfl) hR.2⟩ rfl hl.1 rfl (Nat.le_of_ble_eq_true rfl) rfl dX1_cancel_49 (fun H locs cells slots I => ?_)
        refine lv_pop hx hb dX1_cancel_52 (rf_cat _) ?_
        refine lv_aload_n hx hb dX1_cancel_53 rfl (lv_at hl 0 rfl) ?_
        refine lv_iload_n hx hb dX1_cancel_54 rfl (lv_at hl 3 rfl) ?_
        refine lv_iconst (v := 0) hx hb dX1_cancel_55 (by decide) ?_
        obtain ⟨u_23, eu_23, hf⟩ := ob hf
        obtain ⟨σ_25, ev_24, hf⟩ := ob hf
        refine cg_V (vw := (RX12, TX12, 15)) (ci := 10) (r := none) (σ' := σ_25) (rs := []) (rest := []) (As := [.int x1, .int (0 : Int32)]) X I eu_23 rfl (mX12_remove hX ev_24) lvX1_448 hdX1_448 ⟨Nat.le_trans (Nat.le_of_ble_eq_true rfl) hR.1, Nat.le_trans (Nat.le_of_ble_eq_true rfl) hR.2⟩ rfl hl.1 rfl (Nat.le_of_ble_eq_true rfl) rfl dX1_cancel_56 (fun H locs cells slots I => ?_)
        refine lv_aload_n hx hb dX1_cancel_59 rfl (lv_at hl 1 rfl) ?_
        refine lv_bipush (v := 6) hx hb dX1_cancel_60 (by decide) ?_
        obtain ⟨σ_26, eσ_26, hf⟩ := ob hf
        refine g_putN hX X I pfX1_313 rfl rfl eσ_26 dX1_cancel_62 (fun H locs I => ?_)
        refine lv_aload_n hx hb dX1_cancel_65 rfl (lv_at hl 0 rfl) ?_
        obtain ⟨v_27, ev_27, hf⟩ := ob hf
        refine g_getN hX X I gfX1_203 (gR_in ev_27) dX1_cancel_66 ?_
        obtain ⟨a_28, ea_28, hga_28⟩ := ob hf
        have hla_28 := hl
        have Ia_28 := I
        subst ea_28
        have hf := hga_28
        have hl := hla_28
        have I := Ia_28
        obtain ⟨u_29, eu_29, hf⟩ := ob hf
        obtain ⟨v_30, ev_30, hf⟩ := ob hf
        refine cg_F (vw := (RJ2, TJ2, 3)) (ci := 21) (r := (some (.int v_30))) (σ' := σ_26) (rs := [.int v_30]) (rest := []) (As := []) hX X I eu_29 rfl (mJ2_size hX ev_30) lvX1_137_J2 hdX1_137_J2 ⟨Nat.le_trans (Nat.le_of_ble_eq_true rfl) hR.1, Nat.le_trans (Nat.le_of_ble_eq_true rfl) hR.2⟩ rfl hl.1 rfl (Nat.le_of_ble_eq_true rfl) rfl dX1_cancel_69 (fun H locs cells slots I => ?_)
        cases os hf
        exact x_ret (r_iret X I dX1_cancel_74)
      · have hf := im c_42 hf
        refine lv_bipush (v := (-3)) hx hb dX1_cancel_45 (by decide) ?_
        cases os hf
        exact x_ret (r_iret X I dX1_cancel_47)
    · have hf := im c_11 hf
      refine lv_bipush (v := (-2)) hx hb dX1_cancel_14 (by decide) ?_
      cases os hf
      exact x_ret (r_iret X I dX1_cancel_16)
  · have hf := se_r hgv_2
    obtain ⟨uq_5, eq_5, hf⟩ := ob hf
    cases os hf
    refine cx_thr I (xr_V (vw := (RX1, TX1, 7)) (ci := 0) (σ' := σ_3) (rest := []) (As := [.int x1]) X I eu_1 rfl (mX1_rideAt hX hS ev_2) lvX1_309 hdX1_309 ⟨Nat.le_trans (Nat.le_of_ble_eq_true rfl) hR.1, Nat.le_trans (Nat.le_of_ble_eq_true rfl) hR.2⟩ rfl hl.1 rfl (Nat.le_of_ble_eq_true rfl) dX1_cancel_2) (fun H locs cells slots I => ?_)
    exact x_out X XH rfl I eq_5
theorem mX1_cancel {E : EV} {l : Launch} {N : Nat} {σ : St} {x0 : Nat} {x1 : Int32} {res : ((Int32 ⊕ Nat) × St)} (hX : XK E) (hS : l.stackTraces = false) (hf : fX1_cancel N E.2.2.2.1 σ x0 x1 = some res) : CX E l yX1_cancel (ws_ yX1_cancel cX1_cancel 4 (some .int)) 10 235 [.ref x0, .int x1] σ (sv (fun v => (some (.int v))) res.1) (sx res.1) res.2 := by
  refine CX.of hX.1 (by decide) rfl rfl (Nat.le_of_ble_eq_true rfl) ?_
  intro p e s m below meth c X XH I ls hl
  exact wX1_cancel_0 hX ⟨Nat.le_refl _, Nat.le_refl _⟩ X XH hS N _ _ _ _ _ _ _ _ I hl hf
/-! SharedTaxisLaw.cancel(LSharedTaxis;I[J)I imp=True fuel=True kap=True rt=I thr=False -/
theorem lvX0_72 : GoodIn lw_all (wsV RX0 72 RX1 yX1_cancel (ws_ yX1_cancel cX1_cancel 4 (some .int))) := lw_V q2149 q2150 q2151 q113 q2152
theorem hdX0_72 : yX1_cancel.cls = RX1 ∧ yX1_cancel.cls ≠ "java/lang/invoke/MethodHandle" ∧ yX1_cancel.cls ≠ "java/lang/invoke/VarHandle" ∧ (parseMethodDescriptor yX1_cancel.desc).map (fun d => d.parameters.length) = some 1 := by decide +kernel
def fX0_cancel (N : Nat) (κ : Nat → Nat) (σ : St) (x0 : Nat) (x1 : Int32) (x2 : Nat) : Option (Int32 × St) := (isC σ x0 0).bind fun u_1 : Unit => (fX1_cancel N κ σ x0 x1).bind fun (v_2, σ_3) => se v_2 (fun v_4 => (sJ σ_3 x2 (0 : Int32) (v_4.toInt64)).bind fun σ_6 : St => some ((0 : Int32), σ_6)) (fun q_5 => (clsX σ_3 q_5).bind fun c_7 : Nat => if c_7 = 34 then some ((1 : Int32), σ_3) else none)
theorem wX0_cancel_0 {E : EV} {l : Launch} {p : Program} {e : Env} {s : State} {m : MethodId} {args : Array Value} {below : List Frame} {meth : Method} {c : Code} {R : Room} {res : (Int32 × St)} (hX : XK E) (hR : 11 ≤ R.frames ∧ 258 ≤ R.locals) (X : MX E p s m args meth c cX0_cancel 4 (some .int) RX0 "cancel") (XH : MH c [(0, 9, 12, 18)]) (hS : l.stackTraces = false) (N : Nat) : ∀ (x0 : Nat) (x1 : Int32) (x2 : Nat) (σ : St) (H : Heap) (locs : List Loc) (cells slots : Nat) (ls : Array Slot), WI E R s σ H locs cells slots → lv_has ls 4 [(0, .ref x0), (1, .int x1), (2, .ref x2)] → fX0_cancel N E.2.2.2.1 σ x0 x1 x2 = some res → W p l e R s m args below meth c H locs cells slots (vx_MQ below (QS E R.cells R.slots (some (some (.int res.1))) res.2) (XS E R.cells R.slots none res.2) args s R.cells R.slots (fr E)) (F0 m 0 ls []) := by
  intro x0 x1 x2 σ H locs cells slots ls I hl hf
  obtain ⟨⟨hx, hb, hml, hown, hts⟩, -⟩ := id X
  unfold fX0_cancel at hf
  refine lv_aload_n hx hb dX0_cancel_0 rfl (lv_at hl 2 rfl) ?_
  refine lv_iconst (v := 0) hx hb dX0_cancel_1 (by decide) ?_
  refine lv_aload_n hx hb dX0_cancel_2 rfl (lv_at hl 0 rfl) ?_
  refine lv_iload_n hx hb dX0_cancel_3 rfl (lv_at hl 1 rfl) ?_
  obtain ⟨u_1, eu_1, hf⟩ := ob hf
  obtain ⟨⟨v_2, σ_3⟩, ev_2, hf⟩ := ob hf
  have hgv_2 := hf
  rcases v_2 with v_4 | q_5
  · have hf := se_l hgv_2
    refine cx_ret (r := (some (.int v_4))) (rs := [.int v_4, .int (0 : Int32), .ref x2]) I (xr_V (vw := (RX1, TX1, 7)) (ci := 0) (σ' := σ_3) (rest := [.int (0 : Int32), .ref x2]) (As := [.int x1]) X I eu_1 rfl (mX1_cancel hX hS ev_2) lvX0_72 hdX0_72 ⟨Nat.le_trans (Nat.le_of_ble_eq_true rfl) hR.1, Nat.le_trans (Nat.le_of_ble_eq_true rfl) hR.2⟩ rfl hl.1 rfl (Nat.le_of_ble_eq_true rfl) dX0_cancel_4) rfl (fun H locs cells slots I => ?_)
    refine lv_i2l hx hb dX0_cancel_7 rfl ?_
    obtain ⟨σ_6, eσ_6, hf⟩ := ob hf
    refine g_last X I eσ_6 dX0_cancel_8 (fun H locs I => ?_)
    refine lv_goto (tgt := 15) hx hb dX0_cancel_9 (by decide) ?_
    refine lv_iconst (v := 0) hx hb dX0_cancel_15 (by decide) ?_
    cases os hf
    exact x_ret (r_iret X I dX0_cancel_16)
  · have hf := se_r hgv_2
    obtain ⟨c_7, ec_7, hf⟩ := ob hf
    refine cx_thr I (xr_V (vw := (RX1, TX1, 7)) (ci := 0) (σ' := σ_3) (rest := [.int (0 : Int32), .ref x2]) (As := [.int x1]) X I eu_1 rfl (mX1_cancel hX hS ev_2) lvX0_72 hdX0_72 ⟨Nat.le_trans (Nat.le_of_ble_eq_true rfl) hR.1, Nat.le_trans (Nat.le_of_ble_eq_true rfl) hR.2⟩ rfl hl.1 rfl (Nat.le_of_ble_eq_true rfl) dX0_cancel_4) (fun H locs cells slots I => ?_)
    by_cases cc_7_E22 : c_7 = 34
    · have hf := ip cc_7_E22 hf
      refine x_catch (vw := (RJ22, TJ22, 0)) hX X XH I (cc_7_E22 ▸ ec_7) rfl ((tableOf [(0, 9, 12, 18)]).take 0) _ _ rfl (fun z hz => nomatch hz) rfl (by decide) q1558 q417 ?_
      refine lv_astore_n (lv' := [(3, .ref q_5), (0, .ref x0), (1, .int x1), (2, .ref x2)]) hx hb dX0_cancel_12 rfl hl (by decide) rfl (fun ls hl => ?_)
      refine lv_iconst (v := 1) hx hb dX0_cancel_13 (by decide) ?_
      cases os hf
      exact x_ret (r_iret X I dX0_cancel_14)
    · have hf := im cc_7_E22 hf
      exact nomatch hf
theorem mX0_cancel {E : EV} {l : Launch} {N : Nat} {σ : St} {x0 : Nat} {x1 : Int32} {x2 : Nat} {res : (Int32 × St)} (hX : XK E) (hS : l.stackTraces = false) (hf : fX0_cancel N E.2.2.2.1 σ x0 x1 x2 = some res) : CX E l yX0_cancel (wsW_ yX0_cancel cX0_cancel 4 (some .int) [(0, 9, 12, 18)]) 11 258 [.ref x0, .int x1, .ref x2] σ (some (some (.int res.1))) none res.2 := by
  refine CX.ofH hX.1 (by decide) rfl rfl (Nat.le_of_ble_eq_true rfl) ?_
  intro p e s m below meth c X XH I ls hl
  exact wX0_cancel_0 hX ⟨Nat.le_refl _, Nat.le_refl _⟩ X XH hS N _ _ _ _ _ _ _ _ _ I hl hf
