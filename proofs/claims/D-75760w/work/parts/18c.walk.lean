/-! walks over the abstract heap (printed by gen/gwalk.py) -/
set_option maxRecDepth 100000
/-! SharedTaxis$Reader.clause(LSharedTaxis$State;)V imp=True fuel=True kap=True rt=None thr=True -/
theorem lvX5_136 : GoodIn lw_all (wsV RX5 136 RX6 yX6_expect (ws_ yX6_expect cX6_expect 2 none)) := lw_V q1424 q1425 q1426 q126 q1427
theorem hdX5_136 : yX6_expect.cls = RX6 ∧ yX6_expect.cls ≠ "java/lang/invoke/MethodHandle" ∧ yX6_expect.cls ≠ "java/lang/invoke/VarHandle" ∧ (parseMethodDescriptor yX6_expect.desc).map (fun d => d.parameters.length) = some 1 := by decide +kernel
theorem lvX5_108 : GoodIn lw_all (wsV RX5 108 RX6 yX6_isWord (ws_ yX6_isWord cX6_isWord 2 (some .boolean))) := lw_V q1439 q1356 q1357 q126 q1358
theorem hdX5_108 : yX6_isWord.cls = RX6 ∧ yX6_isWord.cls ≠ "java/lang/invoke/MethodHandle" ∧ yX6_isWord.cls ≠ "java/lang/invoke/VarHandle" ∧ (parseMethodDescriptor yX6_isWord.desc).map (fun d => d.parameters.length) = some 1 := by decide +kernel
theorem lvX5_130 : GoodIn lw_all (wsV RX5 130 RX6 yX6_expectWord (ws_ yX6_expectWord cX6_expectWord 2 none)) := lw_V q1347 q1348 q1349 q126 q1350
theorem hdX5_130 : yX6_expectWord.cls = RX6 ∧ yX6_expectWord.cls ≠ "java/lang/invoke/MethodHandle" ∧ yX6_expectWord.cls ≠ "java/lang/invoke/VarHandle" ∧ (parseMethodDescriptor yX6_expectWord.desc).map (fun d => d.parameters.length) = some 1 := by decide +kernel
theorem lvX5_134 : GoodIn lw_all (wsV RX5 134 RX5 yX5_rule (ws_ yX5_rule cX5_rule 3 none)) := lw_V q1512 q1514 qs14 q125 q1515
theorem hdX5_134 : yX5_rule.cls = RX5 ∧ yX5_rule.cls ≠ "java/lang/invoke/MethodHandle" ∧ yX5_rule.cls ≠ "java/lang/invoke/VarHandle" ∧ (parseMethodDescriptor yX5_rule.desc).map (fun d => d.parameters.length) = some 1 := by decide +kernel
theorem pfX5_120 : ∀ q ∈ ([(1, 2)] : List (Nat × Nat)), PN RX5 120 .int q := List.forall_mem_cons.mpr ⟨⟨RX2, TX2, 7, _, tyX2, rfl, in_X2, by decide, q243, tyX2_ok, nmX2, rfl, rfl⟩, fun _ h => by cases h⟩
theorem pfX5_123 : ∀ q ∈ ([(1, 3)] : List (Nat × Nat)), PN RX5 123 .int q := List.forall_mem_cons.mpr ⟨⟨RX2, TX2, 7, _, tyX2, rfl, in_X2, by decide, q246, tyX2_ok, nmX2, rfl, rfl⟩, fun _ h => by cases h⟩
theorem lvX5_116 : GoodIn lw_all (wsV RX5 116 RX5 yX5_road (ws_ yX5_road cX5_road 3 none)) := lw_V q1494 q1496 qs13 q125 q1497
theorem hdX5_116 : yX5_road.cls = RX5 ∧ yX5_road.cls ≠ "java/lang/invoke/MethodHandle" ∧ yX5_road.cls ≠ "java/lang/invoke/VarHandle" ∧ (parseMethodDescriptor yX5_road.desc).map (fun d => d.parameters.length) = some 0 := by decide +kernel
theorem lvX5_111 : GoodIn lw_all (wsV RX5 111 RX5 yX5_taxi (ws_ yX5_taxi cX5_taxi 6 none)) := lw_V q1440 q1442 qs10 q125 q1443
theorem hdX5_111 : yX5_taxi.cls = RX5 ∧ yX5_taxi.cls ≠ "java/lang/invoke/MethodHandle" ∧ yX5_taxi.cls ≠ "java/lang/invoke/VarHandle" ∧ (parseMethodDescriptor yX5_taxi.desc).map (fun d => d.parameters.length) = some 1 := by decide +kernel
def fX5_clause_147 (N : Nat) (κ : Nat → Nat) (x0 : Nat) (σ : St) : Option ((Unit ⊕ Nat) × St) := (gR σ x0 [(4, 0)]).bind fun v_1 : Option Nat => (v_1).bind fun a_2 : Nat => (isC σ a_2 5).bind fun u_3 : Unit => (fX6_expect N κ σ a_2 (59 : Int32)).bind fun (v_4, σ_5) => se v_4 (fun v_6 => some (.inl (), σ_5)) (fun q_7 => (isX σ_5 q_7).bind fun uq_7 : Unit => some (.inr q_7, σ_5))
def fX5_clause (N : Nat) (κ : Nat → Nat) (σ : St) (x0 : Nat) (x1 : Nat) : Option ((Unit ⊕ Nat) × St) := (gR σ x0 [(4, 0)]).bind fun v_8 : Option Nat => (v_8).bind fun a_9 : Nat => (isC σ a_9 5).bind fun u_10 : Unit => (fX6_isWord N κ σ a_9 (κ 126)).bind fun v_11 : Int32 => if v_11 = 0 then (gR σ x0 [(4, 0)]).bind fun v_13 : Option Nat => (v_13).bind fun a_14 : Nat => (isC σ a_14 5).bind fun u_15 : Unit => (fX6_accept N κ σ a_14 (κ 127)).bind fun (v_16, σ_17) => if v_16 = 0 then (gR σ_17 x0 [(4, 0)]).bind fun v_18 : Option Nat => (v_18).bind fun a_19 : Nat => (isC σ_17 a_19 5).bind fun u_20 : Unit => (fX6_accept N κ σ_17 a_19 (κ 128)).bind fun (v_21, σ_22) => if v_21 = 0 then (gR σ_22 x0 [(4, 0)]).bind fun v_23 : Option Nat => (v_23).bind fun a_24 : Nat => (isC σ_22 a_24 5).bind fun u_25 : Unit => (fX6_accept N κ σ_22 a_24 (κ 129)).bind fun (v_26, σ_27) => if v_26 = 0 then (gR σ_27 x0 [(4, 0)]).bind fun v_28 : Option Nat => (v_28).bind fun a_29 : Nat => (isC σ_27 a_29 5).bind fun u_30 : Unit => (fX6_expectWord N κ σ_27 a_29 (κ 130)).bind fun (v_31, σ_32) => se v_31 (fun v_33 => (isC σ_32 x0 4).bind fun u_35 : Unit => (fX5_rule N κ σ_32 x0 x1).bind fun (v_36, σ_37) => se v_36 (fun v_38 => fX5_clause_147 N κ x0 σ_37) (fun q_39 => (isX σ_37 q_39).bind fun uq_39 : Unit => some (.inr q_39, σ_37))) (fun q_34 => (isX σ_32 q_34).bind fun uq_34 : Unit => some (.inr q_34, σ_32)) else (gR σ_27 x0 [(4, 0)]).bind fun v_40 : Option Nat => (v_40).bind fun a_41 : Nat => (isC σ_27 a_41 5).bind fun u_42 : Unit => (fX6_number N κ σ_27 a_41 (2 : Int32) (4 : Int32)).bind fun (v_43, σ_44) => se v_43 (fun v_45 => (gR σ_44 x1 [(1, 1)]).bind fun v_47 : Option Nat => (gR σ_44 x0 [(4, 0)]).bind fun v_48 : Option Nat => (fX1_mostOf σ_44 (7 : Int32)).bind fun v_49 : Int32 => (v_48).bind fun a_51 : Nat => (isC σ_44 a_51 5).bind fun u_52 : Unit => (fX6_number N κ σ_44 a_51 (0 : Int32) v_49).bind fun (v_53, σ_54) => se v_53 (fun v_55 => (v_47).bind fun a_57 : Nat => (sI σ_54 a_57 0 (((7 : Int32) + v_45) - (2 : Int32)) v_55).bind fun σ_58 : St => fX5_clause_147 N κ x0 σ_58) (fun q_56 => (isX σ_54 q_56).bind fun uq_56 : Unit => some (.inr q_56, σ_54))) (fun q_46 => (isX σ_44 q_46).bind fun uq_46 : Unit => some (.inr q_46, σ_44)) else (gR σ_22 x0 [(4, 0)]).bind fun v_59 : Option Nat => (v_59).bind fun a_60 : Nat => (isC σ_22 a_60 5).bind fun u_61 : Unit => (fX6_number N κ σ_22 a_60 (0 : Int32) (9999 : Int32)).bind fun (v_62, σ_63) => se v_62 (fun v_64 => (pV σ_63 x1 [(1, 2)] (.int v_64)).bind fun σ_66 : St => (gR σ_66 x0 [(4, 0)]).bind fun v_67 : Option Nat => (v_67).bind fun a_68 : Nat => (isC σ_66 a_68 5).bind fun u_69 : Unit => (fX6_number N κ σ_66 a_68 (0 : Int32) (999 : Int32)).bind fun (v_70, σ_71) => se v_70 (fun v_72 => (pV σ_71 x1 [(1, 3)] (.int v_72)).bind fun σ_74 : St => fX5_clause_147 N κ x0 σ_74) (fun q_73 => (isX σ_71 q_73).bind fun uq_73 : Unit => some (.inr q_73, σ_71))) (fun q_65 => (isX σ_63 q_65).bind fun uq_65 : Unit => some (.inr q_65, σ_63)) else (isC σ_17 x0 4).bind fun u_75 : Unit => (fX5_road N κ σ_17 x0).bind fun (v_76, σ_77) => se v_76 (fun v_78 => fX5_clause_147 N κ x0 σ_77) (fun q_79 => (isX σ_77 q_79).bind fun uq_79 : Unit => some (.inr q_79, σ_77)) else (isC σ x0 4).bind fun u_80 : Unit => (fX5_taxi N κ σ x0 x1).bind fun (v_81, σ_82) => se v_81 (fun v_83 => fX5_clause_147 N κ x0 σ_82) (fun q_84 => (isX σ_82 q_84).bind fun uq_84 : Unit => some (.inr q_84, σ_82))
theorem wX5_clause_147 {E : EV} {l : Launch} {p : Program} {e : Env} {s : State} {m : MethodId} {args : Array Value} {below : List Frame} {meth : Method} {c : Code} {R : Room} {res : ((Unit ⊕ Nat) × St)} (hX : XK E) (hR : 13 ≤ R.frames ∧ 292 ≤ R.locals) (X : MX E p s m args meth c cX5_clause 3 none RX5 "clause") (XH : MH c []) (N : Nat) : ∀ (x0 : Nat) (σ : St) (H : Heap) (locs : List Loc) (cells slots : Nat) (ls : Array Slot), WI E R s σ H locs cells slots → lv_has ls 3 [(0, .ref x0)] → fX5_clause_147 N E.2.2.2.1 x0 σ = some res → W p l e R s m args below meth c H locs cells slots (vx_MQ below (QS E R.cells R.slots (sv (fun v => none) res.1) res.2) (XS E R.cells R.slots (sx res.1) res.2) args s R.cells R.slots (fr E)) (F0 m 147 ls []) := by
  intro x0 σ H locs cells slots ls I hl hf
  obtain ⟨⟨hx, hb, hml, hown, hts⟩, -⟩ := id X
  unfold fX5_clause_147 at hf
  refine lv_aload_n hx hb dX5_clause_147 rfl (lv_at hl 0 rfl) ?_
  obtain ⟨v_1, ev_1, hf⟩ := ob hf
  refine g_get X I gfX5_9 (gR_in ev_1) dX5_clause_148 ?_
  refine lv_bipush (v := 59) hx hb dX5_clause_151 (by decide) ?_
  obtain ⟨a_2, ea_2, hga_2⟩ := ob hf
  have hla_2 := hl
  have Ia_2 := I
  subst ea_2
  have hf := hga_2
  have hl := hla_2
  have I := Ia_2
  obtain ⟨u_3, eu_3, hf⟩ := ob hf
  obtain ⟨⟨v_4, σ_5⟩, ev_4, hf⟩ := ob hf
  have hgv_4 := hf
  rcases v_4 with v_6 | q_7
  · have hf := se_l hgv_4
    refine cx_ret (r := none) (rs := []) I (xr_V (vw := (RX6, TX6, 8)) (ci := 5) (σ' := σ_5) (rest := []) (As := [.int (59 : Int32)]) X I eu_3 rfl (mX6_expect hX ev_4) lvX5_136 hdX5_136 ⟨Nat.le_trans (Nat.le_of_ble_eq_true rfl) hR.1, Nat.le_trans (Nat.le_of_ble_eq_true rfl) hR.2⟩ rfl hl.1 rfl (Nat.le_of_ble_eq_true rfl) dX5_clause_153) rfl (fun H locs cells slots I => ?_)
    cases os hf
    exact x_ret (r_vret X I dX5_clause_156)
  · have hf := se_r hgv_4
    obtain ⟨uq_7, eq_7, hf⟩ := ob hf
    cases os hf
    refine cx_thr I (xr_V (vw := (RX6, TX6, 8)) (ci := 5) (σ' := σ_5) (rest := []) (As := [.int (59 : Int32)]) X I eu_3 rfl (mX6_expect hX ev_4) lvX5_136 hdX5_136 ⟨Nat.le_trans (Nat.le_of_ble_eq_true rfl) hR.1, Nat.le_trans (Nat.le_of_ble_eq_true rfl) hR.2⟩ rfl hl.1 rfl (Nat.le_of_ble_eq_true rfl) dX5_clause_153) (fun H locs cells slots I => ?_)
    exact x_out X XH rfl I eq_7
theorem wX5_clause_0 {E : EV} {l : Launch} {p : Program} {e : Env} {s : State} {m : MethodId} {args : Array Value} {below : List Frame} {meth : Method} {c : Code} {R : Room} {res : ((Unit ⊕ Nat) × St)} (hX : XK E) (hR : 13 ≤ R.frames ∧ 292 ≤ R.locals) (X : MX E p s m args meth c cX5_clause 3 none RX5 "clause") (XH : MH c []) (N : Nat) : ∀ (x0 : Nat) (x1 : Nat) (σ : St) (H : Heap) (locs : List Loc) (cells slots : Nat) (ls : Array Slot), WI E R s σ H locs cells slots → lv_has ls 3 [(0, .ref x0), (1, .ref x1)] → fX5_clause N E.2.2.2.1 σ x0 x1 = some res → W p l e R s m args below meth c H locs cells slots (vx_MQ below (QS E R.cells R.slots (sv (fun v => none) res.1) res.2) (XS E R.cells R.slots (sx res.1) res.2) args s R.cells R.slots (fr E)) (F0 m 0 ls []) := by
  intro x0 x1 σ H locs cells slots ls I hl hf
  obtain ⟨⟨hx, hb, hml, hown, hts⟩, -⟩ := id X
  unfold fX5_clause at hf
  refine lv_aload_n hx hb dX5_clause_0 rfl (lv_at hl 0 rfl) ?_
  obtain ⟨v_8, ev_8, hf⟩ := ob hf
  refine g_get X I gfX5_9 (gR_in ev_8) dX5_clause_1 ?_
  refine g_ldcS hX X (tx := "taxi") (k := 126) (List.mem_of_getElem? (i := 26) rfl) dX5_clause_4 ?_
  obtain ⟨a_9, ea_9, hga_9⟩ := ob hf
  have hla_9 := hl
  have Ia_9 := I
  subst ea_9
  have hf := hga_9
  have hl := hla_9
  have I := Ia_9
  obtain ⟨u_10, eu_10, hf⟩ := ob hf
  obtain ⟨v_11, ev_11, hf⟩ := ob hf
  refine cg_V (vw := (RX6, TX6, 8)) (ci := 5) (r := (some (.int v_11))) (σ' := σ) (rs := [.int v_11]) (rest := []) (As := [.ref (E.2.2.2.1 126)]) X I eu_10 rfl (mX6_isWord hX ev_11) lvX5_108 hdX5_108 ⟨Nat.le_trans (Nat.le_of_ble_eq_true rfl) hR.1, Nat.le_trans (Nat.le_of_ble_eq_true rfl) hR.2⟩ rfl hl.1 rfl (Nat.le_of_ble_eq_true rfl) rfl dX5_clause_6 (fun H locs cells slots I => ?_)
  refine lv_if_eq (tgt := 20) hx hb dX5_clause_9 (by decide) (fun c_9 => ?_) (fun c_9 => ?_)
  · have hf := ip c_9 hf
    refine lv_aload_n hx hb dX5_clause_20 rfl (lv_at hl 0 rfl) ?_
    obtain ⟨v_13, ev_13, hf⟩ := ob hf
    refine g_get X I gfX5_9 (gR_in ev_13) dX5_clause_21 ?_
    refine g_ldcS hX X (tx := "road") (k := 127) (List.mem_of_getElem? (i := 27) rfl) dX5_clause_24 ?_
    obtain ⟨a_14, ea_14, hga_14⟩ := ob hf
    have hla_14 := hl
    have Ia_14 := I
    subst ea_14
    have hf := hga_14
    have hl := hla_14
    have I := Ia_14
    obtain ⟨u_15, eu_15, hf⟩ := ob hf
    obtain ⟨⟨v_16, σ_17⟩, ev_16, hf⟩ := ob hf
    refine cg_V (vw := (RX6, TX6, 8)) (ci := 5) (r := (some (.int v_16))) (σ' := σ_17) (rs := [.int v_16]) (rest := []) (As := [.ref (E.2.2.2.1 127)]) X I eu_15 rfl (mX6_accept hX ev_16) lvX5_87 hdX5_87 ⟨Nat.le_trans (Nat.le_of_ble_eq_true rfl) hR.1, Nat.le_trans (Nat.le_of_ble_eq_true rfl) hR.2⟩ rfl hl.1 rfl (Nat.le_of_ble_eq_true rfl) rfl dX5_clause_26 (fun H locs cells slots I => ?_)
    refine lv_if_eq (tgt := 39) hx hb dX5_clause_29 (by decide) (fun c_29 => ?_) (fun c_29 => ?_)
    · have hf := ip c_29 hf
      refine lv_aload_n hx hb dX5_clause_39 rfl (lv_at hl 0 rfl) ?_
      obtain ⟨v_18, ev_18, hf⟩ := ob hf
      refine g_get X I gfX5_9 (gR_in ev_18) dX5_clause_40 ?_
      refine g_ldcS hX X (tx := "tariff") (k := 128) (List.mem_of_getElem? (i := 28) rfl) dX5_clause_43 ?_
      obtain ⟨a_19, ea_19, hga_19⟩ := ob hf
      have hla_19 := hl
      have Ia_19 := I
      subst ea_19
      have hf := hga_19
      have hl := hla_19
      have I := Ia_19
      obtain ⟨u_20, eu_20, hf⟩ := ob hf
      obtain ⟨⟨v_21, σ_22⟩, ev_21, hf⟩ := ob hf
      refine cg_V (vw := (RX6, TX6, 8)) (ci := 5) (r := (some (.int v_21))) (σ' := σ_22) (rs := [.int v_21]) (rest := []) (As := [.ref (E.2.2.2.1 128)]) X I eu_20 rfl (mX6_accept hX ev_21) lvX5_87 hdX5_87 ⟨Nat.le_trans (Nat.le_of_ble_eq_true rfl) hR.1, Nat.le_trans (Nat.le_of_ble_eq_true rfl) hR.2⟩ rfl hl.1 rfl (Nat.le_of_ble_eq_true rfl) rfl dX5_clause_45 (fun H locs cells slots I => ?_)
      refine lv_if_eq (tgt := 84) hx hb dX5_clause_48 (by decide) (fun c_48 => ?_) (fun c_48 => ?_)
      · have hf := ip c_48 hf
        refine lv_aload_n hx hb dX5_clause_84 rfl (lv_at hl 0 rfl) ?_
        obtain ⟨v_23, ev_23, hf⟩ := ob hf
        refine g_get X I gfX5_9 (gR_in ev_23) dX5_clause_85 ?_
        refine g_ldcS hX X (tx := "discount") (k := 129) (List.mem_of_getElem? (i := 29) rfl) dX5_clause_88 ?_
        obtain ⟨a_24, ea_24, hga_24⟩ := ob hf
        have hla_24 := hl
        have Ia_24 := I
        subst ea_24
        have hf := hga_24
        have hl := hla_24
        have I := Ia_24
        obtain ⟨u_25, eu_25, hf⟩ := ob hf
        obtain ⟨⟨v_26, σ_27⟩, ev_26, hf⟩ := ob hf
        refine cg_V (vw := (RX6, TX6, 8)) (ci := 5) (r := (some (.int v_26))) (σ' := σ_27) (rs := [.int v_26]) (rest := []) (As := [.ref (E.2.2.2.1 129)]) X I eu_25 rfl (mX6_accept hX ev_26) lvX5_87 hdX5_87 ⟨Nat.le_trans (Nat.le_of_ble_eq_true rfl) hR.1, Nat.le_trans (Nat.le_of_ble_eq_true rfl) hR.2⟩ rfl hl.1 rfl (Nat.le_of_ble_eq_true rfl) rfl dX5_clause_90 (fun H locs cells slots I => ?_)
        refine lv_if_eq (tgt := 133) hx hb dX5_clause_93 (by decide) (fun c_93 => ?_) (fun c_93 => ?_)
        · have hf := ip c_93 hf
          refine lv_aload_n hx hb dX5_clause_133 rfl (lv_at hl 0 rfl) ?_
          obtain ⟨v_28, ev_28, hf⟩ := ob hf
          refine g_get X I gfX5_9 (gR_in ev_28) dX5_clause_134 ?_
          refine g_ldcS hX X (tx := "rule") (k := 130) (List.mem_of_getElem? (i := 30) rfl) dX5_clause_137 ?_
          obtain ⟨a_29, ea_29, hga_29⟩ := ob hf
          have hla_29 := hl
          have Ia_29 := I
          subst ea_29
          have hf := hga_29
          have hl := hla_29
          have I := Ia_29
          obtain ⟨u_30, eu_30, hf⟩ := ob hf
          obtain ⟨⟨v_31, σ_32⟩, ev_31, hf⟩ := ob hf
          have hgv_31 := hf
          rcases v_31 with v_33 | q_34
          · have hf := se_l hgv_31
            refine cx_ret (r := none) (rs := []) I (xr_V (vw := (RX6, TX6, 8)) (ci := 5) (σ' := σ_32) (rest := []) (As := [.ref (E.2.2.2.1 130)]) X I eu_30 rfl (mX6_expectWord hX ev_31) lvX5_130 hdX5_130 ⟨Nat.le_trans (Nat.le_of_ble_eq_true rfl) hR.1, Nat.le_trans (Nat.le_of_ble_eq_true rfl) hR.2⟩ rfl hl.1 rfl (Nat.le_of_ble_eq_true rfl) dX5_clause_139) rfl (fun H locs cells slots I => ?_)
            refine lv_aload_n hx hb dX5_clause_142 rfl (lv_at hl 0 rfl) ?_
            refine lv_aload_n hx hb dX5_clause_143 rfl (lv_at hl 1 rfl) ?_
            obtain ⟨u_35, eu_35, hf⟩ := ob hf
            obtain ⟨⟨v_36, σ_37⟩, ev_36, hf⟩ := ob hf
            have hgv_36 := hf
            rcases v_36 with v_38 | q_39
            · have hf := se_l hgv_36
              refine cx_ret (r := none) (rs := []) I (xr_V (vw := (RX5, TX5, 2)) (ci := 4) (σ' := σ_37) (rest := []) (As := [.ref x1]) X I eu_35 rfl (mX5_rule hX ev_36) lvX5_134 hdX5_134 ⟨Nat.le_trans (Nat.le_of_ble_eq_true rfl) hR.1, Nat.le_trans (Nat.le_of_ble_eq_true rfl) hR.2⟩ rfl hl.1 rfl (Nat.le_of_ble_eq_true rfl) dX5_clause_144) rfl (fun H locs cells slots I => ?_)
              exact wX5_clause_147 hX hR X XH N x0 σ_37 _ _ _ _ _ I (lv_sub hl [0] rfl) hf
            · have hf := se_r hgv_36
              obtain ⟨uq_39, eq_39, hf⟩ := ob hf
              cases os hf
              refine cx_thr I (xr_V (vw := (RX5, TX5, 2)) (ci := 4) (σ' := σ_37) (rest := []) (As := [.ref x1]) X I eu_35 rfl (mX5_rule hX ev_36) lvX5_134 hdX5_134 ⟨Nat.le_trans (Nat.le_of_ble_eq_true rfl) hR.1, Nat.le_trans (Nat.le_of_ble_eq_true rfl) hR.2⟩ rfl hl.1 rfl (Nat.le_of_ble_eq_true rfl) dX5_clause_144) (fun H locs cells slots I => ?_)
              exact x_out X XH rfl I eq_39
          · have hf := se_r hgv_31
            obtain ⟨uq_34, eq_34, hf⟩ := ob hf
            cases os hf
            refine cx_thr I (xr_V (vw := (RX6, TX6, 8)) (ci := 5) (σ' := σ_32) (rest := []) (As := [.ref (E.2.2.2.1 130)]) X I eu_30 rfl (mX6_expectWord hX ev_31) lvX5_130 hdX5_130 ⟨Nat.le_trans (Nat.le_of_ble_eq_true rfl) hR.1, Nat.le_trans (Nat.le_of_ble_eq_true rfl) hR.2⟩ rfl hl.1 rfl (Nat.le_of_ble_eq_true rfl) dX5_clause_139) (fun H locs cells slots I => ?_)
            exact x_out X XH rfl I eq_34
        · have hf := im c_93 hf
          refine lv_aload_n hx hb dX5_clause_96 rfl (lv_at hl 0 rfl) ?_
          obtain ⟨v_40, ev_40, hf⟩ := ob hf
          refine g_get X I gfX5_9 (gR_in ev_40) dX5_clause_97 ?_
          refine lv_iconst (v := 2) hx hb dX5_clause_100 (by decide) ?_
          refine lv_iconst (v := 4) hx hb dX5_clause_101 (by decide) ?_
          obtain ⟨a_41, ea_41, hga_41⟩ := ob hf
          have hla_41 := hl
          have Ia_41 := I
          subst ea_41
          have hf := hga_41
          have hl := hla_41
          have I := Ia_41
          obtain ⟨u_42, eu_42, hf⟩ := ob hf
          obtain ⟨⟨v_43, σ_44⟩, ev_43, hf⟩ := ob hf
          have hgv_43 := hf
          rcases v_43 with v_45 | q_46
          · have hf := se_l hgv_43
            refine cx_ret (r := (some (.int v_45))) (rs := [.int v_45]) I (xr_V (vw := (RX6, TX6, 8)) (ci := 5) (σ' := σ_44) (rest := []) (As := [.int (2 : Int32), .int (4 : Int32)]) X I eu_42 rfl (mX6_number hX ev_43) lvX5_25 hdX5_25 ⟨Nat.le_trans (Nat.le_of_ble_eq_true rfl) hR.1, Nat.le_trans (Nat.le_of_ble_eq_true rfl) hR.2⟩ rfl hl.1 rfl (Nat.le_of_ble_eq_true rfl) dX5_clause_102) rfl (fun H locs cells slots I => ?_)
            refine lv_istore_n (lv' := [(2, .int v_45), (0, .ref x0), (1, .ref x1)]) hx hb dX5_clause_105 rfl hl (by decide) rfl (fun ls hl => ?_)
            refine lv_aload_n hx hb dX5_clause_106 rfl (lv_at hl 2 rfl) ?_
            obtain ⟨v_47, ev_47, hf⟩ := ob hf
            refine g_getN hX X I gfX5_91 (gR_in ev_47) dX5_clause_107 ?_
            refine lv_bipush (v := 7) hx hb dX5_clause_110 (by decide) ?_
            refine lv_iload_n hx hb dX5_clause_112 rfl (lv_at hl 0 rfl) ?_
            refine lv_iadd hx hb dX5_clause_113 ?_
            refine lv_iconst (v := 2) hx hb dX5_clause_114 (by decide) ?_
            refine lv_isub hx hb dX5_clause_115 ?_
            refine lv_aload_n hx hb dX5_clause_116 rfl (lv_at hl 1 rfl) ?_
            obtain ⟨v_48, ev_48, hf⟩ := ob hf
            refine g_get X I gfX5_9 (gR_in ev_48) dX5_clause_117 ?_
            refine lv_iconst (v := 0) hx hb dX5_clause_120 (by decide) ?_
            refine lv_bipush (v := 7) hx hb dX5_clause_121 (by decide) ?_
            obtain ⟨v_49, ev_49, hf⟩ := ob hf
            refine cm_SN (r := (some (.int v_49))) (σ' := σ_44) (rs := [.int v_49, .int (0 : Int32), va_rf v_48, .int (((7 : Int32) + v_45) - (2 : Int32)), va_rf v_47]) (rest := [.int (0 : Int32), va_rf v_48, .int (((7 : Int32) + v_45) - (2 : Int32)), va_rf v_47]) (As := [.int (7 : Int32)]) hX X I (mX1_mostOf hX ev_49) lvX5_99 hdX5_99 ⟨Nat.le_trans (Nat.le_of_ble_eq_true rfl) hR.1, Nat.le_trans (Nat.le_of_ble_eq_true rfl) hR.2⟩ rfl hl.1 rfl (by rcases v_47 with _ | _ <;> rcases v_48 with _ | _ <;> exact (Nat.le_of_ble_eq_true rfl)) rfl dX5_clause_123 (fun H locs cells slots I => ?_)
            obtain ⟨a_51, ea_51, hga_51⟩ := ob hf
            have hla_51 := hl
            have Ia_51 := I
            subst ea_51
            have hf := hga_51
            have hl := hla_51
            have I := Ia_51
            obtain ⟨u_52, eu_52, hf⟩ := ob hf
            obtain ⟨⟨v_53, σ_54⟩, ev_53, hf⟩ := ob hf
            have hgv_53 := hf
            rcases v_53 with v_55 | q_56
            · have hf := se_l hgv_53
              refine cx_ret (r := (some (.int v_55))) (rs := [.int v_55, .int (((7 : Int32) + v_45) - (2 : Int32)), va_rf v_47]) I (xr_V (vw := (RX6, TX6, 8)) (ci := 5) (σ' := σ_54) (rest := [.int (((7 : Int32) + v_45) - (2 : Int32)), va_rf v_47]) (As := [.int (0 : Int32), .int v_49]) X I eu_52 rfl (mX6_number hX ev_53) lvX5_25 hdX5_25 ⟨Nat.le_trans (Nat.le_of_ble_eq_true rfl) hR.1, Nat.le_trans (Nat.le_of_ble_eq_true rfl) hR.2⟩ rfl hl.1 rfl (by rcases v_47 with _ | _ <;> exact (Nat.le_of_ble_eq_true rfl)) dX5_clause_126) rfl (fun H locs cells slots I => ?_)
              obtain ⟨a_57, ea_57, hga_57⟩ := ob hf
              have hla_57 := hl
              have Ia_57 := I
              subst ea_57
              have hf := hga_57
              have hl := hla_57
              have I := Ia_57
              obtain ⟨σ_58, eσ_58, hf⟩ := ob hf
              refine g_iast X I eσ_58 dX5_clause_129 (fun H locs I => ?_)
              refine lv_goto (tgt := 147) hx hb dX5_clause_130 (by decide) ?_
              exact wX5_clause_147 hX hR X XH N x0 σ_58 _ _ _ _ _ I (lv_sub hl [1] rfl) hf
            · have hf := se_r hgv_53
              obtain ⟨uq_56, eq_56, hf⟩ := ob hf
              cases os hf
              refine cx_thr I (xr_V (vw := (RX6, TX6, 8)) (ci := 5) (σ' := σ_54) (rest := [.int (((7 : Int32) + v_45) - (2 : Int32)), va_rf v_47]) (As := [.int (0 : Int32), .int v_49]) X I eu_52 rfl (mX6_number hX ev_53) lvX5_25 hdX5_25 ⟨Nat.le_trans (Nat.le_of_ble_eq_true rfl) hR.1, Nat.le_trans (Nat.le_of_ble_eq_true rfl) hR.2⟩ rfl hl.1 rfl (by rcases v_47 with _ | _ <;> exact (Nat.le_of_ble_eq_true rfl)) dX5_clause_126) (fun H locs cells slots I => ?_)
              exact x_out X XH rfl I eq_56
          · have hf := se_r hgv_43
            obtain ⟨uq_46, eq_46, hf⟩ := ob hf
            cases os hf
            refine cx_thr I (xr_V (vw := (RX6, TX6, 8)) (ci := 5) (σ' := σ_44) (rest := []) (As := [.int (2 : Int32), .int (4 : Int32)]) X I eu_42 rfl (mX6_number hX ev_43) lvX5_25 hdX5_25 ⟨Nat.le_trans (Nat.le_of_ble_eq_true rfl) hR.1, Nat.le_trans (Nat.le_of_ble_eq_true rfl) hR.2⟩ rfl hl.1 rfl (Nat.le_of_ble_eq_true rfl) dX5_clause_102) (fun H locs cells slots I => ?_)
            exact x_out X XH rfl I eq_46
      · have hf := im c_48 hf
        refine lv_aload_n hx hb dX5_clause_51 rfl (lv_at hl 1 rfl) ?_
        refine lv_aload_n hx hb dX5_clause_52 rfl (lv_at hl 0 rfl) ?_
        obtain ⟨v_59, ev_59, hf⟩ := ob hf
        refine g_get X I gfX5_9 (gR_in ev_59) dX5_clause_53 ?_
        refine lv_iconst (v := 0) hx hb dX5_clause_56 (by decide) ?_
        refine lv_sipush (v := 9999) hx hb dX5_clause_57 (by decide) ?_
        obtain ⟨a_60, ea_60, hga_60⟩ := ob hf
        have hla_60 := hl
        have Ia_60 := I
        subst ea_60
        have hf := hga_60
        have hl := hla_60
        have I := Ia_60
        obtain ⟨u_61, eu_61, hf⟩ := ob hf
        obtain ⟨⟨v_62, σ_63⟩, ev_62, hf⟩ := ob hf
        have hgv_62 := hf
        rcases v_62 with v_64 | q_65
        · have hf := se_l hgv_62
          refine cx_ret (r := (some (.int v_64))) (rs := [.int v_64, .ref x1]) I (xr_V (vw := (RX6, TX6, 8)) (ci := 5) (σ' := σ_63) (rest := [.ref x1]) (As := [.int (0 : Int32), .int (9999 : Int32)]) X I eu_61 rfl (mX6_number hX ev_62) lvX5_25 hdX5_25 ⟨Nat.le_trans (Nat.le_of_ble_eq_true rfl) hR.1, Nat.le_trans (Nat.le_of_ble_eq_true rfl) hR.2⟩ rfl hl.1 rfl (Nat.le_of_ble_eq_true rfl) dX5_clause_60) rfl (fun H locs cells slots I => ?_)
          obtain ⟨σ_66, eσ_66, hf⟩ := ob hf
          refine g_putN hX X I pfX5_120 rfl rfl eσ_66 dX5_clause_63 (fun H locs I => ?_)
          refine lv_aload_n hx hb dX5_clause_66 rfl (lv_at hl 1 rfl) ?_
          refine lv_aload_n hx hb dX5_clause_67 rfl (lv_at hl 0 rfl) ?_
          obtain ⟨v_67, ev_67, hf⟩ := ob hf
          refine g_get X I gfX5_9 (gR_in ev_67) dX5_clause_68 ?_
          refine lv_iconst (v := 0) hx hb dX5_clause_71 (by decide) ?_
          refine lv_sipush (v := 999) hx hb dX5_clause_72 (by decide) ?_
          obtain ⟨a_68, ea_68, hga_68⟩ := ob hf
          have hla_68 := hl
          have Ia_68 := I
          subst ea_68
          have hf := hga_68
          have hl := hla_68
          have I := Ia_68
          obtain ⟨u_69, eu_69, hf⟩ := ob hf
          obtain ⟨⟨v_70, σ_71⟩, ev_70, hf⟩ := ob hf
          have hgv_70 := hf
          rcases v_70 with v_72 | q_73
          · have hf := se_l hgv_70
            refine cx_ret (r := (some (.int v_72))) (rs := [.int v_72, .ref x1]) I (xr_V (vw := (RX6, TX6, 8)) (ci := 5) (σ' := σ_71) (rest := [.ref x1]) (As := [.int (0 : Int32), .int (999 : Int32)]) X I eu_69 rfl (mX6_number hX ev_70) lvX5_25 hdX5_25 ⟨Nat.le_trans (Nat.le_of_ble_eq_true rfl) hR.1, Nat.le_trans (Nat.le_of_ble_eq_true rfl) hR.2⟩ rfl hl.1 rfl (Nat.le_of_ble_eq_true rfl) dX5_clause_75) rfl (fun H locs cells slots I => ?_)
            obtain ⟨σ_74, eσ_74, hf⟩ := ob hf
            refine g_putN hX X I pfX5_123 rfl rfl eσ_74 dX5_clause_78 (fun H locs I => ?_)
            refine lv_goto (tgt := 147) hx hb dX5_clause_81 (by decide) ?_
            exact wX5_clause_147 hX hR X XH N x0 σ_74 _ _ _ _ _ I (lv_sub hl [0] rfl) hf
          · have hf := se_r hgv_70
            obtain ⟨uq_73, eq_73, hf⟩ := ob hf
            cases os hf
            refine cx_thr I (xr_V (vw := (RX6, TX6, 8)) (ci := 5) (σ' := σ_71) (rest := [.ref x1]) (As := [.int (0 : Int32), .int (999 : Int32)]) X I eu_69 rfl (mX6_number hX ev_70) lvX5_25 hdX5_25 ⟨Nat.le_trans (Nat.le_of_ble_eq_true rfl) hR.1, Nat.le_trans (Nat.le_of_ble_eq_true rfl) hR.2⟩ rfl hl.1 rfl (Nat.le_of_ble_eq_true rfl) dX5_clause_75) (fun H locs cells slots I => ?_)
            exact x_out X XH rfl I eq_73
        · have hf := se_r hgv_62
          obtain ⟨uq_65, eq_65, hf⟩ := ob hf
          cases os hf
          refine cx_thr I (xr_V (vw := (RX6, TX6, 8)) (ci := 5) (σ' := σ_63) (rest := [.ref x1]) (As := [.int (0 : Int32), .int (9999 : Int32)]) X I eu_61 rfl (mX6_number hX ev_62) lvX5_25 hdX5_25 ⟨Nat.le_trans (Nat.le_of_ble_eq_true rfl) hR.1, Nat.le_trans (Nat.le_of_ble_eq_true rfl) hR.2⟩ rfl hl.1 rfl (Nat.le_of_ble_eq_true rfl) dX5_clause_60) (fun H locs cells slots I => ?_)
          exact x_out X XH rfl I eq_65
    · have hf := im c_29 hf
      refine lv_aload_n hx hb dX5_clause_32 rfl (lv_at hl 0 rfl) ?_
      obtain ⟨u_75, eu_75, hf⟩ := ob hf
      obtain ⟨⟨v_76, σ_77⟩, ev_76, hf⟩ := ob hf
      have hgv_76 := hf
      rcases v_76 with v_78 | q_79
      · have hf := se_l hgv_76
        refine cx_ret (r := none) (rs := []) I (xr_V (vw := (RX5, TX5, 2)) (ci := 4) (σ' := σ_77) (rest := []) (As := []) X I eu_75 rfl (mX5_road hX ev_76) lvX5_116 hdX5_116 ⟨Nat.le_trans (Nat.le_of_ble_eq_true rfl) hR.1, Nat.le_trans (Nat.le_of_ble_eq_true rfl) hR.2⟩ rfl hl.1 rfl (Nat.le_of_ble_eq_true rfl) dX5_clause_33) rfl (fun H locs cells slots I => ?_)
        refine lv_goto (tgt := 147) hx hb dX5_clause_36 (by decide) ?_
        exact wX5_clause_147 hX hR X XH N x0 σ_77 _ _ _ _ _ I (lv_sub hl [0] rfl) hf
      · have hf := se_r hgv_76
        obtain ⟨uq_79, eq_79, hf⟩ := ob hf
        cases os hf
        refine cx_thr I (xr_V (vw := (RX5, TX5, 2)) (ci := 4) (σ' := σ_77) (rest := []) (As := []) X I eu_75 rfl (mX5_road hX ev_76) lvX5_116 hdX5_116 ⟨Nat.le_trans (Nat.le_of_ble_eq_true rfl) hR.1, Nat.le_trans (Nat.le_of_ble_eq_true rfl) hR.2⟩ rfl hl.1 rfl (Nat.le_of_ble_eq_true rfl) dX5_clause_33) (fun H locs cells slots I => ?_)
        exact x_out X XH rfl I eq_79
  · have hf := im c_9 hf
    refine lv_aload_n hx hb dX5_clause_12 rfl (lv_at hl 0 rfl) ?_
    refine lv_aload_n hx hb dX5_clause_13 rfl (lv_at hl 1 rfl) ?_
    obtain ⟨u_80, eu_80, hf⟩ := ob hf
    obtain ⟨⟨v_81, σ_82⟩, ev_81, hf⟩ := ob hf
    have hgv_81 := hf
    rcases v_81 with v_83 | q_84
    · have hf := se_l hgv_81
      refine cx_ret (r := none) (rs := []) I (xr_V (vw := (RX5, TX5, 2)) (ci := 4) (σ' := σ_82) (rest := []) (As := [.ref x1]) X I eu_80 rfl (mX5_taxi hX ev_81) lvX5_111 hdX5_111 ⟨Nat.le_trans (Nat.le_of_ble_eq_true rfl) hR.1, Nat.le_trans (Nat.le_of_ble_eq_true rfl) hR.2⟩ rfl hl.1 rfl (Nat.le_of_ble_eq_true rfl) dX5_clause_14) rfl (fun H locs cells slots I => ?_)
      refine lv_goto (tgt := 147) hx hb dX5_clause_17 (by decide) ?_
      exact wX5_clause_147 hX hR X XH N x0 σ_82 _ _ _ _ _ I (lv_sub hl [0] rfl) hf
    · have hf := se_r hgv_81
      obtain ⟨uq_84, eq_84, hf⟩ := ob hf
      cases os hf
      refine cx_thr I (xr_V (vw := (RX5, TX5, 2)) (ci := 4) (σ' := σ_82) (rest := []) (As := [.ref x1]) X I eu_80 rfl (mX5_taxi hX ev_81) lvX5_111 hdX5_111 ⟨Nat.le_trans (Nat.le_of_ble_eq_true rfl) hR.1, Nat.le_trans (Nat.le_of_ble_eq_true rfl) hR.2⟩ rfl hl.1 rfl (Nat.le_of_ble_eq_true rfl) dX5_clause_14) (fun H locs cells slots I => ?_)
      exact x_out X XH rfl I eq_84
theorem mX5_clause {E : EV} {l : Launch} {N : Nat} {σ : St} {x0 : Nat} {x1 : Nat} {res : ((Unit ⊕ Nat) × St)} (hX : XK E) (hf : fX5_clause N E.2.2.2.1 σ x0 x1 = some res) : CX E l yX5_clause (ws_ yX5_clause cX5_clause 3 none) 13 292 [.ref x0, .ref x1] σ (sv (fun v => none) res.1) (sx res.1) res.2 := by
  refine CX.of hX.1 (by decide) rfl rfl (Nat.le_of_ble_eq_true rfl) ?_
  intro p e s m below meth c X XH I ls hl
  exact wX5_clause_0 hX ⟨Nat.le_refl _, Nat.le_refl _⟩ X XH N _ _ _ _ _ _ _ _ I hl hf
/-! SharedTaxis$Town.shorten(III)V imp=True fuel=False kap=False rt=None thr=False -/
def fX3_shorten_60 (x0 : Nat) (x1 : Int32) (x3 : Int32) (x4 : Int32) (x5 : Int32) (σ : St) : Option St := (gR σ x0 [(2, 1)]).bind fun v_1 : Option Nat => (v_1).bind fun a_2 : Nat => (aR σ a_2 3 x1).bind fun v_3 : Option Nat => (v_3).bind fun a_4 : Nat => (sI σ a_4 0 x3 (x4 + x5)).bind fun σ_5 : St => some σ_5
def fX3_shorten (σ : St) (x0 : Nat) (x1 : Int32) (x2 : Int32) (x3 : Int32) : Option St := (gR σ x0 [(2, 1)]).bind fun v_6 : Option Nat => (v_6).bind fun a_7 : Nat => (aR σ a_7 3 x1).bind fun v_8 : Option Nat => (v_8).bind fun a_9 : Nat => (aI σ a_9 0 x2).bind fun v_10 : Int32 => (gR σ x0 [(2, 1)]).bind fun v_11 : Option Nat => (v_11).bind fun a_12 : Nat => (aR σ a_12 3 x2).bind fun v_13 : Option Nat => (v_13).bind fun a_14 : Nat => (aI σ a_14 0 x3).bind fun v_15 : Int32 => if v_10 = (-1 : Int32) then some σ else if v_15 = (-1 : Int32) then some σ else (gR σ x0 [(2, 1)]).bind fun v_16 : Option Nat => (v_16).bind fun a_17 : Nat => (aR σ a_17 3 x1).bind fun v_18 : Option Nat => (v_18).bind fun a_19 : Nat => (aI σ a_19 0 x3).bind fun v_20 : Int32 => if v_20 = (-1 : Int32) then fX3_shorten_60 x0 x1 x3 v_10 v_15 σ else (gR σ x0 [(2, 1)]).bind fun v_21 : Option Nat => (v_21).bind fun a_22 : Nat => (aR σ a_22 3 x1).bind fun v_23 : Option Nat => (v_23).bind fun a_24 : Nat => (aI σ a_24 0 x3).bind fun v_25 : Int32 => if v_25 ≤ (v_10 + v_15) then some σ else fX3_shorten_60 x0 x1 x3 v_10 v_15 σ
theorem wX3_shorten_60 {E : EV} {l : Launch} {p : Program} {e : Env} {s : State} {m : MethodId} {args : Array Value} {below : List Frame} {meth : Method} {c : Code} {R : Room} {res : St} (hX : XK E) (hR : 0 ≤ R.frames ∧ 0 ≤ R.locals) (X : MX E p s m args meth c cX3_shorten 6 none RX3 "shorten") : ∀ (x0 : Nat) (x1 : Int32) (x3 : Int32) (x4 : Int32) (x5 : Int32) (σ : St) (H : Heap) (locs : List Loc) (cells slots : Nat) (ls : Array Slot), WI E R s σ H locs cells slots → lv_has ls 6 [(0, .ref x0), (1, .int x1), (3, .int x3), (4, .int x4), (5, .int x5)] → fX3_shorten_60 x0 x1 x3 x4 x5 σ = some res → W p l e R s m args below meth c H locs cells slots (MQ below (Qd E R.cells R.slots none res) args s R.cells R.slots (fr E)) (F0 m 60 ls []) := by
  intro x0 x1 x3 x4 x5 σ H locs cells slots ls I hl hf
  obtain ⟨⟨hx, hb, hml, hown, hts⟩, -⟩ := id X
  unfold fX3_shorten_60 at hf
  refine lv_aload_n hx hb dX3_shorten_60 rfl (lv_at hl 0 rfl) ?_
  obtain ⟨v_1, ev_1, hf⟩ := ob hf
  refine g_get X I gfX3_17 (gR_in ev_1) dX3_shorten_61 ?_
  refine lv_iload_n hx hb dX3_shorten_64 rfl (lv_at hl 1 rfl) ?_
  obtain ⟨a_2, ea_2, hga_2⟩ := ob hf
  have hla_2 := hl
  have Ia_2 := I
  subst ea_2
  have hf := hga_2
  have hl := hla_2
  have I := Ia_2
  obtain ⟨v_3, ev_3, hf⟩ := ob hf
  refine g_aald X I (by decide) rfl ev_3 dX3_shorten_65 ?_
  refine lv_iload_n hx hb dX3_shorten_66 rfl (lv_at hl 2 rfl) ?_
  refine lv_iload hx hb dX3_shorten_67 (lv_at hl 3 rfl) ?_
  refine lv_iload hx hb dX3_shorten_69 (lv_at hl 4 rfl) ?_
  refine lv_iadd hx hb dX3_shorten_71 ?_
  obtain ⟨a_4, ea_4, hga_4⟩ := ob hf
  have hla_4 := hl
  have Ia_4 := I
  subst ea_4
  have hf := hga_4
  have hl := hla_4
  have I := Ia_4
  obtain ⟨σ_5, eσ_5, hf⟩ := ob hf
  refine g_iast X I eσ_5 dX3_shorten_72 (fun H locs I => ?_)
  cases os hf
  exact r_vret X I dX3_shorten_73
theorem wX3_shorten_0 {E : EV} {l : Launch} {p : Program} {e : Env} {s : State} {m : MethodId} {args : Array Value} {below : List Frame} {meth : Method} {c : Code} {R : Room} {res : St} (hX : XK E) (hR : 0 ≤ R.frames ∧ 0 ≤ R.locals) (X : MX E p s m args meth c cX3_shorten 6 none RX3 "shorten") : ∀ (x0 : Nat) (x1 : Int32) (x2 : Int32) (x3 : Int32) (σ : St) (H : Heap) (locs : List Loc) (cells slots : Nat) (ls : Array Slot), WI E R s σ H locs cells slots → lv_has ls 6 [(0, .ref x0), (1, .int x1), (2, .int x2), (3, .int x3)] → fX3_shorten σ x0 x1 x2 x3 = some res → W p l e R s m args below meth c H locs cells slots (MQ below (Qd E R.cells R.slots none res) args s R.cells R.slots (fr E)) (F0 m 0 ls []) := by
  intro x0 x1 x2 x3 σ H locs cells slots ls I hl hf
  obtain ⟨⟨hx, hb, hml, hown, hts⟩, -⟩ := id X
  unfold fX3_shorten at hf
  refine lv_aload_n hx hb dX3_shorten_0 rfl (lv_at hl 0 rfl) ?_
  obtain ⟨v_6, ev_6, hf⟩ := ob hf
  refine g_get X I gfX3_17 (gR_in ev_6) dX3_shorten_1 ?_
  refine lv_iload_n hx hb dX3_shorten_4 rfl (lv_at hl 1 rfl) ?_
  obtain ⟨a_7, ea_7, hga_7⟩ := ob hf
  have hla_7 := hl
  have Ia_7 := I
  subst ea_7
  have hf := hga_7
  have hl := hla_7
  have I := Ia_7
  obtain ⟨v_8, ev_8, hf⟩ := ob hf
  refine g_aald X I (by decide) rfl ev_8 dX3_shorten_5 ?_
  refine lv_iload_n hx hb dX3_shorten_6 rfl (lv_at hl 2 rfl) ?_
  obtain ⟨a_9, ea_9, hga_9⟩ := ob hf
  have hla_9 := hl
  have Ia_9 := I
  subst ea_9
  have hf := hga_9
  have hl := hla_9
  have I := Ia_9
  obtain ⟨v_10, ev_10, hf⟩ := ob hf
  refine g_iald X I ev_10 dX3_shorten_7 ?_
  refine lv_istore (lv' := [(4, .int v_10), (0, .ref x0), (1, .int x1), (2, .int x2), (3, .int x3)]) hx hb dX3_shorten_8 hl (by decide) rfl (fun ls hl => ?_)
  refine lv_aload_n hx hb dX3_shorten_10 rfl (lv_at hl 1 rfl) ?_
  obtain ⟨v_11, ev_11, hf⟩ := ob hf
  refine g_get X I gfX3_17 (gR_in ev_11) dX3_shorten_11 ?_
  refine lv_iload_n hx hb dX3_shorten_14 rfl (lv_at hl 3 rfl) ?_
  obtain ⟨a_12, ea_12, hga_12⟩ := ob hf
  have hla_12 := hl
  have Ia_12 := I
  subst ea_12
  have hf := hga_12
  have hl := hla_12
  have I := Ia_12
  obtain ⟨v_13, ev_13, hf⟩ := ob hf
  refine g_aald X I (by decide) rfl ev_13 dX3_shorten_15 ?_
  refine lv_iload_n hx hb dX3_shorten_16 rfl (lv_at hl 4 rfl) ?_
  obtain ⟨a_14, ea_14, hga_14⟩ := ob hf
  have hla_14 := hl
  have Ia_14 := I
  subst ea_14
  have hf := hga_14
  have hl := hla_14
  have I := Ia_14
  obtain ⟨v_15, ev_15, hf⟩ := ob hf
  refine g_iald X I ev_15 dX3_shorten_17 ?_
  refine lv_istore (lv' := [(5, .int v_15), (4, .int v_10), (0, .ref x0), (1, .int x1), (2, .int x2), (3, .int x3)]) hx hb dX3_shorten_18 hl (by decide) rfl (fun ls hl => ?_)
  refine lv_iload hx hb dX3_shorten_20 (lv_at hl 1 rfl) ?_
  refine lv_iconst (v := (-1)) hx hb dX3_shorten_22 (by decide) ?_
  refine lv_icmp_eq (tgt := 73) hx hb dX3_shorten_23 (by decide) (fun c_23 => ?_) (fun c_23 => ?_)
  · have hf := ip c_23 hf
    cases os hf
    exact r_vret X I dX3_shorten_73
  · have hf := im c_23 hf
    refine lv_iload hx hb dX3_shorten_26 (lv_at hl 0 rfl) ?_
    refine lv_iconst (v := (-1)) hx hb dX3_shorten_28 (by decide) ?_
    refine lv_icmp_eq (tgt := 73) hx hb dX3_shorten_29 (by decide) (fun c_29 => ?_) (fun c_29 => ?_)
    · have hf := ip c_29 hf
      cases os hf
      exact r_vret X I dX3_shorten_73
    · have hf := im c_29 hf
      refine lv_aload_n hx hb dX3_shorten_32 rfl (lv_at hl 2 rfl) ?_
      obtain ⟨v_16, ev_16, hf⟩ := ob hf
      refine g_get X I gfX3_17 (gR_in ev_16) dX3_shorten_33 ?_
      refine lv_iload_n hx hb dX3_shorten_36 rfl (lv_at hl 3 rfl) ?_
      obtain ⟨a_17, ea_17, hga_17⟩ := ob hf
      have hla_17 := hl
      have Ia_17 := I
      subst ea_17
      have hf := hga_17
      have hl := hla_17
      have I := Ia_17
      obtain ⟨v_18, ev_18, hf⟩ := ob hf
      refine g_aald X I (by decide) rfl ev_18 dX3_shorten_37 ?_
      refine lv_iload_n hx hb dX3_shorten_38 rfl (lv_at hl 5 rfl) ?_
      obtain ⟨a_19, ea_19, hga_19⟩ := ob hf
      have hla_19 := hl
      have Ia_19 := I
      subst ea_19
      have hf := hga_19
      have hl := hla_19
      have I := Ia_19
      obtain ⟨v_20, ev_20, hf⟩ := ob hf
      refine g_iald X I ev_20 dX3_shorten_39 ?_
      refine lv_iconst (v := (-1)) hx hb dX3_shorten_40 (by decide) ?_
      refine lv_icmp_eq (tgt := 60) hx hb dX3_shorten_41 (by decide) (fun c_41 => ?_) (fun c_41 => ?_)
      · have hf := ip c_41 hf
        exact wX3_shorten_60 hX hR X x0 x1 x3 v_10 v_15 σ _ _ _ _ _ I (lv_sub hl [2, 3, 5, 1, 0] rfl) hf
      · have hf := im c_41 hf
        refine lv_iload hx hb dX3_shorten_44 (lv_at hl 1 rfl) ?_
        refine lv_iload hx hb dX3_shorten_46 (lv_at hl 0 rfl) ?_
        refine lv_iadd hx hb dX3_shorten_48 ?_
        refine lv_aload_n hx hb dX3_shorten_49 rfl (lv_at hl 2 rfl) ?_
        obtain ⟨v_21, ev_21, hf⟩ := ob hf
        refine g_get X I gfX3_17 (gR_in ev_21) dX3_shorten_50 ?_
        refine lv_iload_n hx hb dX3_shorten_53 rfl (lv_at hl 3 rfl) ?_
        obtain ⟨a_22, ea_22, hga_22⟩ := ob hf
        have hla_22 := hl
        have Ia_22 := I
        subst ea_22
        have hf := hga_22
        have hl := hla_22
        have I := Ia_22
        obtain ⟨v_23, ev_23, hf⟩ := ob hf
        refine g_aald X I (by decide) rfl ev_23 dX3_shorten_54 ?_
        refine lv_iload_n hx hb dX3_shorten_55 rfl (lv_at hl 5 rfl) ?_
        obtain ⟨a_24, ea_24, hga_24⟩ := ob hf
        have hla_24 := hl
        have Ia_24 := I
        subst ea_24
        have hf := hga_24
        have hl := hla_24
        have I := Ia_24
        obtain ⟨v_25, ev_25, hf⟩ := ob hf
        refine g_iald X I ev_25 dX3_shorten_56 ?_
        refine lv_icmp_ge (tgt := 73) hx hb dX3_shorten_57 (by decide) (fun c_57 => ?_) (fun c_57 => ?_)
        · have hf := ip c_57 hf
          cases os hf
          exact r_vret X I dX3_shorten_73
        · have hf := im c_57 hf
          exact wX3_shorten_60 hX hR X x0 x1 x3 v_10 v_15 σ _ _ _ _ _ I (lv_sub hl [2, 3, 5, 1, 0] rfl) hf
theorem mX3_shorten {E : EV} {l : Launch} {σ : St} {x0 : Nat} {x1 : Int32} {x2 : Int32} {x3 : Int32} {res : St} (hX : XK E) (hf : fX3_shorten σ x0 x1 x2 x3 = some res) : CM E l yX3_shorten (ws_ yX3_shorten cX3_shorten 6 none) 0 0 [.ref x0, .int x1, .int x2, .int x3] σ none res := by
  refine CM.of hX.1 (by decide) rfl rfl (Nat.le_of_ble_eq_true rfl) ?_
  intro p e s m below meth c X I ls hl
  exact wX3_shorten_0 hX ⟨Nat.le_refl _, Nat.le_refl _⟩ X _ _ _ _ _ _ _ _ _ _ I hl hf
/-! SharedTaxis$Town.finish()V imp=True fuel=True kap=False rt=None thr=False -/
theorem gfX3_9 : ∀ q ∈ ([(2, 0)] : List (Nat × Nat)), GF RX3 9 q := List.forall_mem_cons.mpr ⟨⟨RX3, TX3, 3, _, rfl, in_X3, by decide, q182, Or.inl rfl⟩, fun _ h => by cases h⟩
theorem lvX3_23 : GoodIn lw_all (wsV RX3 23 RX3 yX3_shorten (ws_ yX3_shorten cX3_shorten 6 none)) := lw_V q1534 q1536 qs15 q115 q1537
theorem hdX3_23 : yX3_shorten.cls = RX3 ∧ yX3_shorten.cls ≠ "java/lang/invoke/MethodHandle" ∧ yX3_shorten.cls ≠ "java/lang/invoke/VarHandle" ∧ (parseMethodDescriptor yX3_shorten.desc).map (fun d => d.parameters.length) = some 3 := by decide +kernel
def fX3_finish_22 (N : Nat) (r2 : Nat → Int32 → St → Option St) (r12 : Nat → Int32 → Int32 → St → Option St) : Nat → Nat → Int32 → Int32 → Int32 → St → Option St
  | 0, _, _, _, _, _ => none
  | n + 1, x0, x1, x2, x3, σ => (gI σ x0 [(2, 0)]).bind fun v_1 : Int32 => if v_1 ≤ x3 then lt (x2 + 1) fun x2_2 : Int32 => r12 x0 x1 x2_2 σ else (isC σ x0 2).bind fun u_3 : Unit => (fX3_shorten σ x0 x2 x1 x3).bind fun σ_5 : St => lt (x3 + 1) fun x3_6 : Int32 => fX3_finish_22 N r2 r12 n x0 x1 x2 x3_6 σ_5
def fX3_finish_12 (N : Nat) (r2 : Nat → Int32 → St → Option St) : Nat → Nat → Int32 → Int32 → St → Option St
  | 0, _, _, _, _ => none
  | n + 1, x0, x1, x2, σ => (gI σ x0 [(2, 0)]).bind fun v_7 : Int32 => if v_7 ≤ x2 then lt (x1 + 1) fun x1_8 : Int32 => r2 x0 x1_8 σ else fX3_finish_22 N r2 (fX3_finish_12 N r2 n) N x0 x1 x2 (0 : Int32) σ
def fX3_finish_2 (N : Nat) : Nat → Nat → Int32 → St → Option St
  | 0, _, _, _ => none
  | n + 1, x0, x1, σ => (gI σ x0 [(2, 0)]).bind fun v_9 : Int32 => if v_9 ≤ x1 then some σ else fX3_finish_12 N (fX3_finish_2 N n) N x0 x1 (0 : Int32) σ
def fX3_finish (N : Nat) (σ : St) (x0 : Nat) : Option St := fX3_finish_2 N N x0 (0 : Int32) σ
theorem wX3_finish_22 {E : EV} {l : Launch} {p : Program} {e : Env} {s : State} {m : MethodId} {args : Array Value} {below : List Frame} {meth : Method} {c : Code} {R : Room} {res : St} (hX : XK E) (hR : 1 ≤ R.frames ∧ 25 ≤ R.locals) (X : MX E p s m args meth c cX3_finish 4 none RX3 "finish") (N : Nat) (r2 : Nat → Int32 → St → Option St) (hr2 : ∀ (x0 : Nat) (x1 : Int32) (σ : St) (H : Heap) (locs : List Loc) (cells slots : Nat) (ls : Array Slot), WI E R s σ H locs cells slots → lv_has ls 4 [(0, .ref x0), (1, .int x1)] → r2 x0 x1 σ = some res → W p l e R s m args below meth c H locs cells slots (MQ below (Qd E R.cells R.slots none res) args s R.cells R.slots (fr E)) (F0 m 2 ls [])) (r12 : Nat → Int32 → Int32 → St → Option St) (hr12 : ∀ (x0 : Nat) (x1 : Int32) (x2 : Int32) (σ : St) (H : Heap) (locs : List Loc) (cells slots : Nat) (ls : Array Slot), WI E R s σ H locs cells slots → lv_has ls 4 [(0, .ref x0), (1, .int x1), (2, .int x2)] → r12 x0 x1 x2 σ = some res → W p l e R s m args below meth c H locs cells slots (MQ below (Qd E R.cells R.slots none res) args s R.cells R.slots (fr E)) (F0 m 12 ls [])) : ∀ (n : Nat) (x0 : Nat) (x1 : Int32) (x2 : Int32) (x3 : Int32) (σ : St) (H : Heap) (locs : List Loc) (cells slots : Nat) (ls : Array Slot), WI E R s σ H locs cells slots → lv_has ls 4 [(0, .ref x0), (1, .int x1), (2, .int x2), (3, .int x3)] → fX3_finish_22 N r2 r12 n x0 x1 x2 x3 σ = some res → W p l e R s m args below meth c H locs cells slots (MQ below (Qd E R.cells R.slots none res) args s R.cells R.slots (fr E)) (F0 m 22 ls []) := by
  intro n
  induction n with
  | zero => intro x0 x1 x2 x3 σ H locs cells slots ls I hl hf; exact nomatch (show none = some res from hf)
  | succ n ih =>
    intro x0 x1 x2 x3 σ H locs cells slots ls I hl hf
    obtain ⟨⟨hx, hb, hml, hown, hts⟩, -⟩ := id X
    rw [fX3_finish_22.eq_2] at hf
    refine lv_iload_n hx hb dX3_finish_22 rfl (lv_at hl 3 rfl) ?_
    refine lv_aload_n hx hb dX3_finish_23 rfl (lv_at hl 0 rfl) ?_
    obtain ⟨v_1, ev_1, hf⟩ := ob hf
    refine g_get X I gfX3_9 (gI_in ev_1) dX3_finish_24 ?_
    refine lv_icmp_ge (tgt := 43) hx hb dX3_finish_27 (by decide) (fun c_27 => ?_) (fun c_27 => ?_)
    · have hf := ip c_27 hf
      obtain ⟨x2_2, ex2_2, hf⟩ := ol hf
      refine lv_iinc (v := x2_2) (lv' := [(2, .int x2_2), (0, .ref x0), (1, .int x1), (3, .int x3)]) hx hb dX3_finish_43 hl (k := 2) rfl ex2_2 (by decide) rfl (fun ls hl => ?_)
      refine lv_goto (tgt := 12) hx hb dX3_finish_46 (by decide) ?_
      exact hr12 x0 x1 x2_2 σ _ _ _ _ _ I (lv_sub hl [1, 2, 0] rfl) hf
    · have hf := im c_27 hf
      refine lv_aload_n hx hb dX3_finish_30 rfl (lv_at hl 0 rfl) ?_
      refine lv_iload_n hx hb dX3_finish_31 rfl (lv_at hl 2 rfl) ?_
      refine lv_iload_n hx hb dX3_finish_32 rfl (lv_at hl 1 rfl) ?_
      refine lv_iload_n hx hb dX3_finish_33 rfl (lv_at hl 3 rfl) ?_
      obtain ⟨u_3, eu_3, hf⟩ := ob hf
      obtain ⟨σ_5, ev_4, hf⟩ := ob hf
      refine cg_V (vw := (RX3, TX3, 3)) (ci := 2) (r := none) (σ' := σ_5) (rs := []) (rest := []) (As := [.int x2, .int x1, .int x3]) X I eu_3 rfl (mX3_shorten hX ev_4) lvX3_23 hdX3_23 ⟨Nat.le_trans (Nat.le_of_ble_eq_true rfl) hR.1, Nat.le_trans (Nat.le_of_ble_eq_true rfl) hR.2⟩ rfl hl.1 rfl (Nat.le_of_ble_eq_true rfl) rfl dX3_finish_34 (fun H locs cells slots I => ?_)
      obtain ⟨x3_6, ex3_6, hf⟩ := ol hf
      refine lv_iinc (v := x3_6) (lv' := [(3, .int x3_6), (0, .ref x0), (1, .int x1), (2, .int x2)]) hx hb dX3_finish_37 hl (k := 3) rfl ex3_6 (by decide) rfl (fun ls hl => ?_)
      refine lv_goto (tgt := 22) hx hb dX3_finish_40 (by decide) ?_
      exact ih x0 x1 x2 x3_6 σ_5 _ _ _ _ _ I (lv_sub hl [1, 2, 3, 0] rfl) hf
theorem wX3_finish_12 {E : EV} {l : Launch} {p : Program} {e : Env} {s : State} {m : MethodId} {args : Array Value} {below : List Frame} {meth : Method} {c : Code} {R : Room} {res : St} (hX : XK E) (hR : 1 ≤ R.frames ∧ 25 ≤ R.locals) (X : MX E p s m args meth c cX3_finish 4 none RX3 "finish") (N : Nat) (r2 : Nat → Int32 → St → Option St) (hr2 : ∀ (x0 : Nat) (x1 : Int32) (σ : St) (H : Heap) (locs : List Loc) (cells slots : Nat) (ls : Array Slot), WI E R s σ H locs cells slots → lv_has ls 4 [(0, .ref x0), (1, .int x1)] → r2 x0 x1 σ = some res → W p l e R s m args below meth c H locs cells slots (MQ below (Qd E R.cells R.slots none res) args s R.cells R.slots (fr E)) (F0 m 2 ls [])) : ∀ (n : Nat) (x0 : Nat) (x1 : Int32) (x2 : Int32) (σ : St) (H : Heap) (locs : List Loc) (cells slots : Nat) (ls : Array Slot), WI E R s σ H locs cells slots → lv_has ls 4 [(0, .ref x0), (1, .int x1), (2, .int x2)] → fX3_finish_12 N r2 n x0 x1 x2 σ = some res → W p l e R s m args below meth c H locs cells slots (MQ below (Qd E R.cells R.slots none res) args s R.cells R.slots (fr E)) (F0 m 12 ls []) := by
  intro n
  induction n with
  | zero => intro x0 x1 x2 σ H locs cells slots ls I hl hf; exact nomatch (show none = some res from hf)
  | succ n ih =>
    intro x0 x1 x2 σ H locs cells slots ls I hl hf
    obtain ⟨⟨hx, hb, hml, hown, hts⟩, -⟩ := id X
    rw [fX3_finish_12.eq_2] at hf
    refine lv_iload_n hx hb dX3_finish_12 rfl (lv_at hl 2 rfl) ?_
    refine lv_aload_n hx hb dX3_finish_13 rfl (lv_at hl 0 rfl) ?_
    obtain ⟨v_7, ev_7, hf⟩ := ob hf
    refine g_get X I gfX3_9 (gI_in ev_7) dX3_finish_14 ?_
    refine lv_icmp_ge (tgt := 49) hx hb dX3_finish_17 (by decide) (fun c_17 => ?_) (fun c_17 => ?_)
    · have hf := ip c_17 hf
      obtain ⟨x1_8, ex1_8, hf⟩ := ol hf
      refine lv_iinc (v := x1_8) (lv' := [(1, .int x1_8), (0, .ref x0), (2, .int x2)]) hx hb dX3_finish_49 hl (k := 1) rfl ex1_8 (by decide) rfl (fun ls hl => ?_)
      refine lv_goto (tgt := 2) hx hb dX3_finish_52 (by decide) ?_
      exact hr2 x0 x1_8 σ _ _ _ _ _ I (lv_sub hl [1, 0] rfl) hf
    · have hf := im c_17 hf
      refine lv_iconst (v := 0) hx hb dX3_finish_20 (by decide) ?_
      refine lv_istore_n (lv' := [(3, .int (0 : Int32)), (0, .ref x0), (1, .int x1), (2, .int x2)]) hx hb dX3_finish_21 rfl hl (by decide) rfl (fun ls hl => ?_)
      exact wX3_finish_22 hX hR X N r2 hr2 (fX3_finish_12 N r2 n) ih N x0 x1 x2 (0 : Int32) σ _ _ _ _ _ I (lv_sub hl [1, 2, 3, 0] rfl) hf
theorem wX3_finish_2 {E : EV} {l : Launch} {p : Program} {e : Env} {s : State} {m : MethodId} {args : Array Value} {below : List Frame} {meth : Method} {c : Code} {R : Room} {res : St} (hX : XK E) (hR : 1 ≤ R.frames ∧ 25 ≤ R.locals) (X : MX E p s m args meth c cX3_finish 4 none RX3 "finish") (N : Nat) : ∀ (n : Nat) (x0 : Nat) (x1 : Int32) (σ : St) (H : Heap) (locs : List Loc) (cells slots : Nat) (ls : Array Slot), WI E R s σ H locs cells slots → lv_has ls 4 [(0, .ref x0), (1, .int x1)] → fX3_finish_2 N n x0 x1 σ = some res → W p l e R s m args below meth c H locs cells slots (MQ below (Qd E R.cells R.slots none res) args s R.cells R.slots (fr E)) (F0 m 2 ls []) := by
  intro n
  induction n with
  | zero => intro x0 x1 σ H locs cells slots ls I hl hf; exact nomatch (show none = some res from hf)
  | succ n ih =>
    intro x0 x1 σ H locs cells slots ls I hl hf
    obtain ⟨⟨hx, hb, hml, hown, hts⟩, -⟩ := id X
    rw [fX3_finish_2.eq_2] at hf
    refine lv_iload_n hx hb dX3_finish_2 rfl (lv_at hl 1 rfl) ?_
    refine lv_aload_n hx hb dX3_finish_3 rfl (lv_at hl 0 rfl) ?_
    obtain ⟨v_9, ev_9, hf⟩ := ob hf
    refine g_get X I gfX3_9 (gI_in ev_9) dX3_finish_4 ?_
    refine lv_icmp_ge (tgt := 55) hx hb dX3_finish_7 (by decide) (fun c_7 => ?_) (fun c_7 => ?_)
    · have hf := ip c_7 hf
      cases os hf
      exact r_vret X I dX3_finish_55
    · have hf := im c_7 hf
      refine lv_iconst (v := 0) hx hb dX3_finish_10 (by decide) ?_
      refine lv_istore_n (lv' := [(2, .int (0 : Int32)), (0, .ref x0), (1, .int x1)]) hx hb dX3_finish_11 rfl hl (by decide) rfl (fun ls hl => ?_)
      exact wX3_finish_12 hX hR X N (fX3_finish_2 N n) ih N x0 x1 (0 : Int32) σ _ _ _ _ _ I (lv_sub hl [1, 2, 0] rfl) hf
theorem wX3_finish_0 {E : EV} {l : Launch} {p : Program} {e : Env} {s : State} {m : MethodId} {args : Array Value} {below : List Frame} {meth : Method} {c : Code} {R : Room} {res : St} (hX : XK E) (hR : 1 ≤ R.frames ∧ 25 ≤ R.locals) (X : MX E p s m args meth c cX3_finish 4 none RX3 "finish") (N : Nat) : ∀ (x0 : Nat) (σ : St) (H : Heap) (locs : List Loc) (cells slots : Nat) (ls : Array Slot), WI E R s σ H locs cells slots → lv_has ls 4 [(0, .ref x0)] → fX3_finish N σ x0 = some res → W p l e R s m args below meth c H locs cells slots (MQ below (Qd E R.cells R.slots none res) args s R.cells R.slots (fr E)) (F0 m 0 ls []) := by
  intro x0 σ H locs cells slots ls I hl hf
  obtain ⟨⟨hx, hb, hml, hown, hts⟩, -⟩ := id X
  unfold fX3_finish at hf
  refine lv_iconst (v := 0) hx hb dX3_finish_0 (by decide) ?_
  refine lv_istore_n (lv' := [(1, .int (0 : Int32)), (0, .ref x0)]) hx hb dX3_finish_1 rfl hl (by decide) rfl (fun ls hl => ?_)
  exact wX3_finish_2 hX hR X N N x0 (0 : Int32) σ _ _ _ _ _ I (lv_sub hl [1, 0] rfl) hf
theorem mX3_finish {E : EV} {l : Launch} {N : Nat} {σ : St} {x0 : Nat} {res : St} (hX : XK E) (hf : fX3_finish N σ x0 = some res) : CM E l yX3_finish (ws_ yX3_finish cX3_finish 4 none) 1 25 [.ref x0] σ none res := by
  refine CM.of hX.1 (by decide) rfl rfl (Nat.le_of_ble_eq_true rfl) ?_
  intro p e s m below meth c X I ls hl
  exact wX3_finish_0 hX ⟨Nat.le_refl _, Nat.le_refl _⟩ X N _ _ _ _ _ _ _ I hl hf
/-! SharedTaxis$Reader.read()LSharedTaxis$State; imp=True fuel=True kap=True rt=N thr=True -/
theorem gfX5_145 : ∀ q ∈ ([(5, 3)] : List (Nat × Nat)), GN RX5 145 q := List.forall_mem_cons.mpr ⟨⟨RX6, TX6, 8, _, rfl, in_X6, by decide, q1306⟩, fun _ h => by cases h⟩
theorem lvX5_151 : GoodIn lw_all (wsV RX5 151 RX3 yX3_finish (ws_ yX3_finish cX3_finish 4 none)) := lw_V q1530 q1531 q1532 q115 q1533
theorem hdX5_151 : yX3_finish.cls = RX3 ∧ yX3_finish.cls ≠ "java/lang/invoke/MethodHandle" ∧ yX3_finish.cls ≠ "java/lang/invoke/VarHandle" ∧ (parseMethodDescriptor yX3_finish.desc).map (fun d => d.parameters.length) = some 0 := by decide +kernel
theorem lvX5_148 : GoodIn lw_all (wsV RX5 148 RX5 yX5_clause (ws_ yX5_clause cX5_clause 3 none)) := lw_V q1434 q1436 qs9 q125 q1437
theorem hdX5_148 : yX5_clause.cls = RX5 ∧ yX5_clause.cls ≠ "java/lang/invoke/MethodHandle" ∧ yX5_clause.cls ≠ "java/lang/invoke/VarHandle" ∧ (parseMethodDescriptor yX5_clause.desc).map (fun d => d.parameters.length) = some 1 := by decide +kernel
theorem noX5_20 : NO RX5 20 2 3 [.int 0, .null, .int 0] := ⟨RX3, TX3, tyX3, rfl, in_X3, tyX3_ok, by decide, q1398, q175, q115⟩
theorem lvX5_141 : GoodIn lw_all (ws_ yX3_init cX3_init 4 none) ∧ Cond.initialized yX3_init.cls ∈ lw_all ∧ Cond.methodLink RX5 141 yX3_init ∈ lw_all ∧ Cond.instanceMethod yX3_init ∈ lw_all ∧ yX3_init.name = "<init>" := ⟨lw_meth q178, q115, q1423, q177, rfl⟩
theorem hdX5_141 : yX3_init.cls ≠ "java/lang/invoke/MethodHandle" ∧ yX3_init.cls ≠ "java/lang/invoke/VarHandle" ∧ (parseMethodDescriptor yX3_init.desc).map (fun d => d.parameters.length) = some 1 := by decide +kernel
theorem pfX5_15 : ∀ q ∈ ([(4, 1)] : List (Nat × Nat)), PF RX5 15 (.object "SharedTaxis$Town") q := List.forall_mem_cons.mpr ⟨⟨RX5, TX5, 2, _, tyX5, rfl, in_X5, by decide, q1336, Or.inl rfl, tyX5_ok, nmX5, rfl, rfl⟩, fun _ h => by cases h⟩
theorem noX5_62 : NO RX5 62 1 7 [.null, .null, .int 0, .int 0, .int 0, .null, .null] := ⟨RX2, TX2, tyX2, rfl, in_X2, tyX2_ok, by decide, q1432, q173, q114⟩
theorem lvX5_142 : GoodIn lw_all (ws_ yX2_init cX2_init 2 none) ∧ Cond.initialized yX2_init.cls ∈ lw_all ∧ Cond.methodLink RX5 142 yX2_init ∈ lw_all ∧ Cond.instanceMethod yX2_init ∈ lw_all ∧ yX2_init.name = "<init>" := ⟨lw_meth q201, q114, q1433, q200, rfl⟩
theorem hdX5_142 : yX2_init.cls ≠ "java/lang/invoke/MethodHandle" ∧ yX2_init.cls ≠ "java/lang/invoke/VarHandle" ∧ (parseMethodDescriptor yX2_init.desc).map (fun d => d.parameters.length) = some 1 := by decide +kernel
def fX5_read_51 (N : Nat) (κ : Nat → Nat) : Nat → Nat → Nat → St → Option ((Nat ⊕ Nat) × St)
  | 0, _, _, _ => none
  | n + 1, x0, x1, σ => (gR σ x0 [(4, 0)]).bind fun v_1 : Option Nat => (v_1).bind fun a_2 : Nat => (gI σ a_2 [(5, 3)]).bind fun v_3 : Int32 => if v_3 = 0 then (gR σ x0 [(4, 1)]).bind fun v_4 : Option Nat => (v_4).bind fun a_5 : Nat => (isC σ a_5 2).bind fun u_6 : Unit => (fX3_finish N σ a_5).bind fun σ_8 : St => some (.inl (x1), σ_8) else (isC σ x0 4).bind fun u_9 : Unit => (fX5_clause N κ σ x0 x1).bind fun (v_10, σ_11) => se v_10 (fun v_12 => fX5_read_51 N κ n x0 x1 σ_11) (fun q_13 => (isX σ_11 q_13).bind fun uq_13 : Unit => some (.inr q_13, σ_11))
def fX5_read (N : Nat) (κ : Nat → Nat) (σ : St) (x0 : Nat) : Option ((Nat ⊕ Nat) × St) := (gR σ x0 [(4, 0)]).bind fun v_14 : Option Nat => (v_14).bind fun a_15 : Nat => (isC σ a_15 5).bind fun u_16 : Unit => (fX6_expectWord N κ σ a_15 (κ 131)).bind fun (v_17, σ_18) => se v_17 (fun v_19 => (nH σ_18 3 (.inr (2, [.int 0, .null, .int 0]))).bind fun (q_21a, q_21s) => (gR q_21s x0 [(4, 0)]).bind fun v_22 : Option Nat => (v_22).bind fun a_23 : Nat => (isC q_21s a_23 5).bind fun u_24 : Unit => (fX6_number N κ q_21s a_23 (2 : Int32) (8 : Int32)).bind fun (v_25, σ_26) => se v_25 (fun v_27 => (fX3_init N σ_26 q_21a v_27).bind fun σ_30 : St => (pV σ_30 x0 [(4, 1)] (.ref q_21a)).bind fun σ_31 : St => (gR σ_31 x0 [(4, 0)]).bind fun v_32 : Option Nat => (v_32).bind fun a_33 : Nat => (isC σ_31 a_33 5).bind fun u_34 : Unit => (fX6_expect N κ σ_31 a_33 (59 : Int32)).bind fun (v_35, σ_36) => se v_35 (fun v_37 => (nH σ_36 7 (.inr (1, [.null, .null, .int 0, .int 0, .int 0, .null, .null]))).bind fun (q_39a, q_39s) => (gR q_39s x0 [(4, 1)]).bind fun v_40 : Option Nat => (v_40).bind fun a_41 : Nat => (fX2_init κ q_39s q_39a a_41).bind fun σ_43 : St => fX5_read_51 N κ N x0 q_39a σ_43) (fun q_38 => (isX σ_36 q_38).bind fun uq_38 : Unit => some (.inr q_38, σ_36))) (fun q_28 => (isX σ_26 q_28).bind fun uq_28 : Unit => some (.inr q_28, σ_26))) (fun q_20 => (isX σ_18 q_20).bind fun uq_20 : Unit => some (.inr q_20, σ_18))
theorem wX5_read_51 {E : EV} {l : Launch} {p : Program} {e : Env} {s : State} {m : MethodId} {args : Array Value} {below : List Frame} {meth : Method} {c : Code} {R : Room} {res : ((Nat ⊕ Nat) × St)} (hX : XK E) (hR : 14 ≤ R.frames ∧ 314 ≤ R.locals) (X : MX E p s m args meth c cX5_read 2 (some (.object "SharedTaxis$State")) RX5 "read") (XH : MH c []) (N : Nat) : ∀ (n : Nat) (x0 : Nat) (x1 : Nat) (σ : St) (H : Heap) (locs : List Loc) (cells slots : Nat) (ls : Array Slot), WI E R s σ H locs cells slots → lv_has ls 2 [(0, .ref x0), (1, .ref x1)] → fX5_read_51 N E.2.2.2.1 n x0 x1 σ = some res → W p l e R s m args below meth c H locs cells slots (vx_MQ below (QS E R.cells R.slots (sv (fun v => (some (.ref v))) res.1) res.2) (XS E R.cells R.slots (sx res.1) res.2) args s R.cells R.slots (fr E)) (F0 m 51 ls []) := by
  intro n
  induction n with
  | zero => intro x0 x1 σ H locs cells slots ls I hl hf; exact nomatch (show none = some res from hf)
  | succ n ih =>
    intro x0 x1 σ H locs cells slots ls I hl hf
    obtain ⟨⟨hx, hb, hml, hown, hts⟩, -⟩ := id X
    rw [fX5_read_51.eq_2] at hf
    refine lv_aload_n hx hb dX5_read_51 rfl (lv_at hl 0 rfl) ?_
    obtain ⟨v_1, ev_1, hf⟩ := ob hf
    refine g_get X I gfX5_9 (gR_in ev_1) dX5_read_52 ?_
    obtain ⟨a_2, ea_2, hga_2⟩ := ob hf
    have hla_2 := hl
    have Ia_2 := I
    subst ea_2
    have hf := hga_2
    have hl := hla_2
    have I := Ia_2
    obtain ⟨v_3, ev_3, hf⟩ := ob hf
    refine g_getN hX X I gfX5_145 (gI_in ev_3) dX5_read_55 ?_
    refine lv_if_eq (tgt := 69) hx hb dX5_read_58 (by decide) (fun c_58 => ?_) (fun c_58 => ?_)
    · have hf := ip c_58 hf
      refine lv_aload_n hx hb dX5_read_69 rfl (lv_at hl 0 rfl) ?_
      obtain ⟨v_4, ev_4, hf⟩ := ob hf
      refine g_get X I gfX5_15 (gR_in ev_4) dX5_read_70 ?_
      obtain ⟨a_5, ea_5, hga_5⟩ := ob hf
      have hla_5 := hl
      have Ia_5 := I
      subst ea_5
      have hf := hga_5
      have hl := hla_5
      have I := Ia_5
      obtain ⟨u_6, eu_6, hf⟩ := ob hf
      obtain ⟨σ_8, ev_7, hf⟩ := ob hf
      refine cg_V (vw := (RX3, TX3, 3)) (ci := 2) (r := none) (σ' := σ_8) (rs := []) (rest := []) (As := []) X I eu_6 rfl (mX3_finish hX ev_7) lvX5_151 hdX5_151 ⟨Nat.le_trans (Nat.le_of_ble_eq_true rfl) hR.1, Nat.le_trans (Nat.le_of_ble_eq_true rfl) hR.2⟩ rfl hl.1 rfl (Nat.le_of_ble_eq_true rfl) rfl dX5_read_73 (fun H locs cells slots I => ?_)
      refine lv_aload_n hx hb dX5_read_76 rfl (lv_at hl 1 rfl) ?_
      cases os hf
      exact x_ret (r_aret X I (Or.inl ⟨_, rfl⟩) (Or.inr ⟨_, rfl⟩) dX5_read_77)
    · have hf := im c_58 hf
      refine lv_aload_n hx hb dX5_read_61 rfl (lv_at hl 0 rfl) ?_
      refine lv_aload_n hx hb dX5_read_62 rfl (lv_at hl 1 rfl) ?_
      obtain ⟨u_9, eu_9, hf⟩ := ob hf
      obtain ⟨⟨v_10, σ_11⟩, ev_10, hf⟩ := ob hf
      have hgv_10 := hf
      rcases v_10 with v_12 | q_13
      · have hf := se_l hgv_10
        refine cx_ret (r := none) (rs := []) I (xr_V (vw := (RX5, TX5, 2)) (ci := 4) (σ' := σ_11) (rest := []) (As := [.ref x1]) X I eu_9 rfl (mX5_clause hX ev_10) lvX5_148 hdX5_148 ⟨Nat.le_trans (Nat.le_of_ble_eq_true rfl) hR.1, Nat.le_trans (Nat.le_of_ble_eq_true rfl) hR.2⟩ rfl hl.1 rfl (Nat.le_of_ble_eq_true rfl) dX5_read_63) rfl (fun H locs cells slots I => ?_)
        refine lv_goto (tgt := 51) hx hb dX5_read_66 (by decide) ?_
        exact ih x0 x1 σ_11 _ _ _ _ _ I (lv_sub hl [0, 1] rfl) hf
      · have hf := se_r hgv_10
        obtain ⟨uq_13, eq_13, hf⟩ := ob hf
        cases os hf
        refine cx_thr I (xr_V (vw := (RX5, TX5, 2)) (ci := 4) (σ' := σ_11) (rest := []) (As := [.ref x1]) X I eu_9 rfl (mX5_clause hX ev_10) lvX5_148 hdX5_148 ⟨Nat.le_trans (Nat.le_of_ble_eq_true rfl) hR.1, Nat.le_trans (Nat.le_of_ble_eq_true rfl) hR.2⟩ rfl hl.1 rfl (Nat.le_of_ble_eq_true rfl) dX5_read_63) (fun H locs cells slots I => ?_)
        exact x_out X XH rfl I eq_13
theorem wX5_read_0 {E : EV} {l : Launch} {p : Program} {e : Env} {s : State} {m : MethodId} {args : Array Value} {below : List Frame} {meth : Method} {c : Code} {R : Room} {res : ((Nat ⊕ Nat) × St)} (hX : XK E) (hR : 14 ≤ R.frames ∧ 314 ≤ R.locals) (X : MX E p s m args meth c cX5_read 2 (some (.object "SharedTaxis$State")) RX5 "read") (XH : MH c []) (N : Nat) : ∀ (x0 : Nat) (σ : St) (H : Heap) (locs : List Loc) (cells slots : Nat) (ls : Array Slot), WI E R s σ H locs cells slots → lv_has ls 2 [(0, .ref x0)] → fX5_read N E.2.2.2.1 σ x0 = some res → W p l e R s m args below meth c H locs cells slots (vx_MQ below (QS E R.cells R.slots (sv (fun v => (some (.ref v))) res.1) res.2) (XS E R.cells R.slots (sx res.1) res.2) args s R.cells R.slots (fr E)) (F0 m 0 ls []) := by
  intro x0 σ H locs cells slots ls I hl hf
  obtain ⟨⟨hx, hb, hml, hown, hts⟩, -⟩ := id X
  unfold fX5_read at hf
  refine lv_aload_n hx hb dX5_read_0 rfl (lv_at hl 0 rfl) ?_
  obtain ⟨v_14, ev_14, hf⟩ := ob hf
  refine g_get X I gfX5_9 (gR_in ev_14) dX5_read_1 ?_
  refine g_ldcS hX X (tx := "zones") (k := 131) (List.mem_of_getElem? (i := 31) rfl) dX5_read_4 ?_
  obtain ⟨a_15, ea_15, hga_15⟩ := ob hf
  have hla_15 := hl
  have Ia_15 := I
  subst ea_15
  have hf := hga_15
  have hl := hla_15
  have I := Ia_15
  obtain ⟨u_16, eu_16, hf⟩ := ob hf
  obtain ⟨⟨v_17, σ_18⟩, ev_17, hf⟩ := ob hf
  have hgv_17 := hf
  rcases v_17 with v_19 | q_20
  · have hf := se_l hgv_17
    refine cx_ret (r := none) (rs := []) I (xr_V (vw := (RX6, TX6, 8)) (ci := 5) (σ' := σ_18) (rest := []) (As := [.ref (E.2.2.2.1 131)]) X I eu_16 rfl (mX6_expectWord hX ev_17) lvX5_130 hdX5_130 ⟨Nat.le_trans (Nat.le_of_ble_eq_true rfl) hR.1, Nat.le_trans (Nat.le_of_ble_eq_true rfl) hR.2⟩ rfl hl.1 rfl (Nat.le_of_ble_eq_true rfl) dX5_read_6) rfl (fun H locs cells slots I => ?_)
    refine lv_aload_n hx hb dX5_read_9 rfl (lv_at hl 0 rfl) ?_
    obtain ⟨⟨q_21a, q_21s⟩, eq_21, hf⟩ := ob hf
    refine g_new X I noX5_20 eq_21 dX5_read_10 (fun H locs cells slots I => ?_)
    refine lv_dup hx hb dX5_read_13 rfl ?_
    refine lv_aload_n hx hb dX5_read_14 rfl (lv_at hl 0 rfl) ?_
    obtain ⟨v_22, ev_22, hf⟩ := ob hf
    refine g_get X I gfX5_9 (gR_in ev_22) dX5_read_15 ?_
    refine lv_iconst (v := 2) hx hb dX5_read_18 (by decide) ?_
    refine lv_bipush (v := 8) hx hb dX5_read_19 (by decide) ?_
    obtain ⟨a_23, ea_23, hga_23⟩ := ob hf
    have hla_23 := hl
    have Ia_23 := I
    subst ea_23
    have hf := hga_23
    have hl := hla_23
    have I := Ia_23
    obtain ⟨u_24, eu_24, hf⟩ := ob hf
    obtain ⟨⟨v_25, σ_26⟩, ev_25, hf⟩ := ob hf
    have hgv_25 := hf
    rcases v_25 with v_27 | q_28
    · have hf := se_l hgv_25
      refine cx_ret (r := (some (.int v_27))) (rs := [.int v_27, .ref q_21a, .ref q_21a, .ref x0]) I (xr_V (vw := (RX6, TX6, 8)) (ci := 5) (σ' := σ_26) (rest := [.ref q_21a, .ref q_21a, .ref x0]) (As := [.int (2 : Int32), .int (8 : Int32)]) X I eu_24 rfl (mX6_number hX ev_25) lvX5_25 hdX5_25 ⟨Nat.le_trans (Nat.le_of_ble_eq_true rfl) hR.1, Nat.le_trans (Nat.le_of_ble_eq_true rfl) hR.2⟩ rfl hl.1 rfl (Nat.le_of_ble_eq_true rfl) dX5_read_21) rfl (fun H locs cells slots I => ?_)
      obtain ⟨σ_30, ev_29, hf⟩ := ob hf
      refine cm_I (σ' := σ_30) (rs := [.ref q_21a, .ref x0]) (rest := [.ref q_21a, .ref x0]) (As := [.int v_27]) X I (mX3_init hX ev_29) lvX5_141 hdX5_141 ⟨Nat.le_trans (Nat.le_of_ble_eq_true rfl) hR.1, Nat.le_trans (Nat.le_of_ble_eq_true rfl) hR.2⟩ rfl hl.1 rfl (Nat.le_of_ble_eq_true rfl) rfl dX5_read_24 (fun H locs cells slots I => ?_)
      obtain ⟨σ_31, eσ_31, hf⟩ := ob hf
      refine g_put X I pfX5_15 rfl rfl eσ_31 dX5_read_27 (fun H locs I => ?_)
      refine lv_aload_n hx hb dX5_read_30 rfl (lv_at hl 0 rfl) ?_
      obtain ⟨v_32, ev_32, hf⟩ := ob hf
      refine g_get X I gfX5_9 (gR_in ev_32) dX5_read_31 ?_
      refine lv_bipush (v := 59) hx hb dX5_read_34 (by decide) ?_
      obtain ⟨a_33, ea_33, hga_33⟩ := ob hf
      have hla_33 := hl
      have Ia_33 := I
      subst ea_33
      have hf := hga_33
      have hl := hla_33
      have I := Ia_33
      obtain ⟨u_34, eu_34, hf⟩ := ob hf
      obtain ⟨⟨v_35, σ_36⟩, ev_35, hf⟩ := ob hf
      have hgv_35 := hf
      rcases v_35 with v_37 | q_38
      · have hf := se_l hgv_35
        refine cx_ret (r := none) (rs := []) I (xr_V (vw := (RX6, TX6, 8)) (ci := 5) (σ' := σ_36) (rest := []) (As := [.int (59 : Int32)]) X I eu_34 rfl (mX6_expect hX ev_35) lvX5_136 hdX5_136 ⟨Nat.le_trans (Nat.le_of_ble_eq_true rfl) hR.1, Nat.le_trans (Nat.le_of_ble_eq_true rfl) hR.2⟩ rfl hl.1 rfl (Nat.le_of_ble_eq_true rfl) dX5_read_36) rfl (fun H locs cells slots I => ?_)
        obtain ⟨⟨q_39a, q_39s⟩, eq_39, hf⟩ := ob hf
        refine g_new X I noX5_62 eq_39 dX5_read_39 (fun H locs cells slots I => ?_)
        refine lv_dup hx hb dX5_read_42 rfl ?_
        refine lv_aload_n hx hb dX5_read_43 rfl (lv_at hl 0 rfl) ?_
        obtain ⟨v_40, ev_40, hf⟩ := ob hf
        refine g_get X I gfX5_15 (gR_in ev_40) dX5_read_44 ?_
        obtain ⟨a_41, ea_41, hga_41⟩ := ob hf
        have hla_41 := hl
        have Ia_41 := I
        subst ea_41
        have hf := hga_41
        have hl := hla_41
        have I := Ia_41
        obtain ⟨σ_43, ev_42, hf⟩ := ob hf
        refine cm_I (σ' := σ_43) (rs := [.ref q_39a]) (rest := [.ref q_39a]) (As := [.ref a_41]) X I (mX2_init hX ev_42) lvX5_142 hdX5_142 ⟨Nat.le_trans (Nat.le_of_ble_eq_true rfl) hR.1, Nat.le_trans (Nat.le_of_ble_eq_true rfl) hR.2⟩ rfl hl.1 rfl (Nat.le_of_ble_eq_true rfl) rfl dX5_read_47 (fun H locs cells slots I => ?_)
        refine lv_astore_n (lv' := [(1, .ref q_39a), (0, .ref x0)]) hx hb dX5_read_50 rfl hl (by decide) rfl (fun ls hl => ?_)
        exact wX5_read_51 hX hR X XH N N x0 q_39a σ_43 _ _ _ _ _ I (lv_sub hl [1, 0] rfl) hf
      · have hf := se_r hgv_35
        obtain ⟨uq_38, eq_38, hf⟩ := ob hf
        cases os hf
        refine cx_thr I (xr_V (vw := (RX6, TX6, 8)) (ci := 5) (σ' := σ_36) (rest := []) (As := [.int (59 : Int32)]) X I eu_34 rfl (mX6_expect hX ev_35) lvX5_136 hdX5_136 ⟨Nat.le_trans (Nat.le_of_ble_eq_true rfl) hR.1, Nat.le_trans (Nat.le_of_ble_eq_true rfl) hR.2⟩ rfl hl.1 rfl (Nat.le_of_ble_eq_true rfl) dX5_read_36) (fun H locs cells slots I => ?_)
        exact x_out X XH rfl I eq_38
    · have hf := se_r hgv_25
      obtain ⟨uq_28, eq_28, hf⟩ := ob hf
      cases os hf
      refine cx_thr I (xr_V (vw := (RX6, TX6, 8)) (ci := 5) (σ' := σ_26) (rest := [.ref q_21a, .ref q_21a, .ref x0]) (As := [.int (2 : Int32), .int (8 : Int32)]) X I eu_24 rfl (mX6_number hX ev_25) lvX5_25 hdX5_25 ⟨Nat.le_trans (Nat.le_of_ble_eq_true rfl) hR.1, Nat.le_trans (Nat.le_of_ble_eq_true rfl) hR.2⟩ rfl hl.1 rfl (Nat.le_of_ble_eq_true rfl) dX5_read_21) (fun H locs cells slots I => ?_)
      exact x_out X XH rfl I eq_28
  · have hf := se_r hgv_17
    obtain ⟨uq_20, eq_20, hf⟩ := ob hf
    cases os hf
    refine cx_thr I (xr_V (vw := (RX6, TX6, 8)) (ci := 5) (σ' := σ_18) (rest := []) (As := [.ref (E.2.2.2.1 131)]) X I eu_16 rfl (mX6_expectWord hX ev_17) lvX5_130 hdX5_130 ⟨Nat.le_trans (Nat.le_of_ble_eq_true rfl) hR.1, Nat.le_trans (Nat.le_of_ble_eq_true rfl) hR.2⟩ rfl hl.1 rfl (Nat.le_of_ble_eq_true rfl) dX5_read_6) (fun H locs cells slots I => ?_)
    exact x_out X XH rfl I eq_20
theorem mX5_read {E : EV} {l : Launch} {N : Nat} {σ : St} {x0 : Nat} {res : ((Nat ⊕ Nat) × St)} (hX : XK E) (hf : fX5_read N E.2.2.2.1 σ x0 = some res) : CX E l yX5_read (ws_ yX5_read cX5_read 2 (some (.object "SharedTaxis$State"))) 14 314 [.ref x0] σ (sv (fun v => (some (.ref v))) res.1) (sx res.1) res.2 := by
  refine CX.of hX.1 (by decide) rfl rfl (Nat.le_of_ble_eq_true rfl) ?_
  intro p e s m below meth c X XH I ls hl
  exact wX5_read_0 hX ⟨Nat.le_refl _, Nat.le_refl _⟩ X XH N _ _ _ _ _ _ _ I hl hf
/-! SharedTaxis$SyntaxException.code()I imp=False fuel=False kap=False rt=I thr=False -/
def fX8_code (σ : St) (x0 : Nat) : Option Int32 := some (1 : Int32)
theorem wX8_code_0 {E : EV} {l : Launch} {p : Program} {e : Env} {s : State} {m : MethodId} {args : Array Value} {below : List Frame} {meth : Method} {c : Code} {R : Room} {σ : St} {res : Int32} (hX : XK E) (hR : 0 ≤ R.frames ∧ 0 ≤ R.locals) (X : MX E p s m args meth c cX8_code 1 (some .int) RX8 "code") : ∀ (x0 : Nat) (H : Heap) (locs : List Loc) (cells slots : Nat) (ls : Array Slot), WI E R s σ H locs cells slots → lv_has ls 1 [(0, .ref x0)] → fX8_code σ x0 = some res → W p l e R s m args below meth c H locs cells slots (MQ below (Qd E R.cells R.slots (some (.int res)) σ) args s R.cells R.slots (fr E)) (F0 m 0 ls []) := by
  intro x0 H locs cells slots ls I hl hf
  obtain ⟨⟨hx, hb, hml, hown, hts⟩, -⟩ := id X
  unfold fX8_code at hf
  refine lv_iconst (v := 1) hx hb dX8_code_0 (by decide) ?_
  cases os hf
  exact r_iret X I dX8_code_1
theorem mX8_code {E : EV} {l : Launch} {σ : St} {x0 : Nat} {res : Int32} (hX : XK E) (hf : fX8_code σ x0 = some res) : CM E l yX8_code (ws_ yX8_code cX8_code 1 (some .int)) 0 0 [.ref x0] σ (some (.int res)) σ := by
  refine CM.of hX.1 (by decide) rfl rfl (Nat.le_of_ble_eq_true rfl) ?_
  intro p e s m below meth c X I ls hl
  exact wX8_code_0 hX ⟨Nat.le_refl _, Nat.le_refl _⟩ X _ _ _ _ _ _ I hl hf
/-! SharedTaxis$RangeException.code()I imp=False fuel=False kap=False rt=I thr=False -/
def fX9_code (σ : St) (x0 : Nat) : Option Int32 := some (2 : Int32)
theorem wX9_code_0 {E : EV} {l : Launch} {p : Program} {e : Env} {s : State} {m : MethodId} {args : Array Value} {below : List Frame} {meth : Method} {c : Code} {R : Room} {σ : St} {res : Int32} (hX : XK E) (hR : 0 ≤ R.frames ∧ 0 ≤ R.locals) (X : MX E p s m args meth c cX9_code 1 (some .int) RX9 "code") : ∀ (x0 : Nat) (H : Heap) (locs : List Loc) (cells slots : Nat) (ls : Array Slot), WI E R s σ H locs cells slots → lv_has ls 1 [(0, .ref x0)] → fX9_code σ x0 = some res → W p l e R s m args below meth c H locs cells slots (MQ below (Qd E R.cells R.slots (some (.int res)) σ) args s R.cells R.slots (fr E)) (F0 m 0 ls []) := by
  intro x0 H locs cells slots ls I hl hf
  obtain ⟨⟨hx, hb, hml, hown, hts⟩, -⟩ := id X
  unfold fX9_code at hf
  refine lv_iconst (v := 2) hx hb dX9_code_0 (by decide) ?_
  cases os hf
  exact r_iret X I dX9_code_1
theorem mX9_code {E : EV} {l : Launch} {σ : St} {x0 : Nat} {res : Int32} (hX : XK E) (hf : fX9_code σ x0 = some res) : CM E l yX9_code (ws_ yX9_code cX9_code 1 (some .int)) 0 0 [.ref x0] σ (some (.int res)) σ := by
  refine CM.of hX.1 (by decide) rfl rfl (Nat.le_of_ble_eq_true rfl) ?_
  intro p e s m below meth c X I ls hl
  exact wX9_code_0 hX ⟨Nat.le_refl _, Nat.le_refl _⟩ X _ _ _ _ _ _ I hl hf
/-! SharedTaxis$LimitException.code()I imp=False fuel=False kap=False rt=I thr=False -/
def fX10_code (σ : St) (x0 : Nat) : Option Int32 := some (3 : Int32)
theorem wX10_code_0 {E : EV} {l : Launch} {p : Program} {e : Env} {s : State} {m : MethodId} {args : Array Value} {below : List Frame} {meth : Method} {c : Code} {R : Room} {σ : St} {res : Int32} (hX : XK E) (hR : 0 ≤ R.frames ∧ 0 ≤ R.locals) (X : MX E p s m args meth c cX10_code 1 (some .int) RX10 "code") : ∀ (x0 : Nat) (H : Heap) (locs : List Loc) (cells slots : Nat) (ls : Array Slot), WI E R s σ H locs cells slots → lv_has ls 1 [(0, .ref x0)] → fX10_code σ x0 = some res → W p l e R s m args below meth c H locs cells slots (MQ below (Qd E R.cells R.slots (some (.int res)) σ) args s R.cells R.slots (fr E)) (F0 m 0 ls []) := by
  intro x0 H locs cells slots ls I hl hf
  obtain ⟨⟨hx, hb, hml, hown, hts⟩, -⟩ := id X
  unfold fX10_code at hf
  refine lv_iconst (v := 3) hx hb dX10_code_0 (by decide) ?_
  cases os hf
  exact r_iret X I dX10_code_1
theorem mX10_code {E : EV} {l : Launch} {σ : St} {x0 : Nat} {res : Int32} (hX : XK E) (hf : fX10_code σ x0 = some res) : CM E l yX10_code (ws_ yX10_code cX10_code 1 (some .int)) 0 0 [.ref x0] σ (some (.int res)) σ := by
  refine CM.of hX.1 (by decide) rfl rfl (Nat.le_of_ble_eq_true rfl) ?_
  intro p e s m below meth c X I ls hl
  exact wX10_code_0 hX ⟨Nat.le_refl _, Nat.le_refl _⟩ X _ _ _ _ _ _ I hl hf
/-! SharedTaxis$ClashException.code()I imp=False fuel=False kap=False rt=I thr=False -/
def fX11_code (σ : St) (x0 : Nat) : Option Int32 := some (4 : Int32)
theorem wX11_code_0 {E : EV} {l : Launch} {p : Program} {e : Env} {s : State} {m : MethodId} {args : Array Value} {below : List Frame} {meth : Method} {c : Code} {R : Room} {σ : St} {res : Int32} (hX : XK E) (hR : 0 ≤ R.frames ∧ 0 ≤ R.locals) (X : MX E p s m args meth c cX11_code 1 (some .int) RX11 "code") : ∀ (x0 : Nat) (H : Heap) (locs : List Loc) (cells slots : Nat) (ls : Array Slot), WI E R s σ H locs cells slots → lv_has ls 1 [(0, .ref x0)] → fX11_code σ x0 = some res → W p l e R s m args below meth c H locs cells slots (MQ below (Qd E R.cells R.slots (some (.int res)) σ) args s R.cells R.slots (fr E)) (F0 m 0 ls []) := by
  intro x0 H locs cells slots ls I hl hf
  obtain ⟨⟨hx, hb, hml, hown, hts⟩, -⟩ := id X
  unfold fX11_code at hf
  refine lv_iconst (v := 4) hx hb dX11_code_0 (by decide) ?_
  cases os hf
  exact r_iret X I dX11_code_1
theorem mX11_code {E : EV} {l : Launch} {σ : St} {x0 : Nat} {res : Int32} (hX : XK E) (hf : fX11_code σ x0 = some res) : CM E l yX11_code (ws_ yX11_code cX11_code 1 (some .int)) 0 0 [.ref x0] σ (some (.int res)) σ := by
  refine CM.of hX.1 (by decide) rfl rfl (Nat.le_of_ble_eq_true rfl) ?_
  intro p e s m below meth c X I ls hl
  exact wX11_code_0 hX ⟨Nat.le_refl _, Nat.le_refl _⟩ X _ _ _ _ _ _ I hl hf
/-! java/util/ArrayDeque.circularClear([Ljava/lang/Object;II)V imp=True fuel=True kap=False rt=None thr=False -/
def fJ3_circularClear_12 (N : Nat) : Nat → Nat → Int32 → Int32 → Int32 → St → Option St
  | 0, _, _, _, _, _ => none
  | n + 1, x0, x1, x2, x3, σ => if x3 ≤ x1 then if x3 = x2 then some σ else fJ3_circularClear_12 N n x0 (0 : Int32) x2 x2 σ else (sR σ x0 3 x1 none).bind fun σ_1 : St => lt (x1 + 1) fun x1_2 : Int32 => fJ3_circularClear_12 N n x0 x1_2 x2 x3 σ_1
def fJ3_circularClear_11 (N : Nat) (x0 : Nat) (x1 : Int32) (x2 : Int32) (y0 : Int32) (σ : St) : Option St := fJ3_circularClear_12 N N x0 x1 x2 y0 σ
def fJ3_circularClear (N : Nat) (σ : St) (x0 : Nat) (x1 : Int32) (x2 : Int32) : Option St := if x2 < x1 then (aL σ x0).bind fun v_3 : Int32 => fJ3_circularClear_11 N x0 x1 x2 v_3 σ else fJ3_circularClear_11 N x0 x1 x2 x2 σ
theorem wJ3_circularClear_12 {E : EV} {l : Launch} {p : Program} {e : Env} {s : State} {m : MethodId} {args : Array Value} {below : List Frame} {meth : Method} {c : Code} {R : Room} {res : St} (hX : XK E) (hR : 0 ≤ R.frames ∧ 0 ≤ R.locals) (X : MX E p s m args meth c cJ3_circularClear 4 none RJ3 "circularClear") (N : Nat) : ∀ (n : Nat) (x0 : Nat) (x1 : Int32) (x2 : Int32) (x3 : Int32) (σ : St) (H : Heap) (locs : List Loc) (cells slots : Nat) (ls : Array Slot), WI E R s σ H locs cells slots → lv_has ls 4 [(0, .ref x0), (1, .int x1), (2, .int x2), (3, .int x3)] → fJ3_circularClear_12 N n x0 x1 x2 x3 σ = some res → W p l e R s m args below meth c H locs cells slots (MQ below (Qd E R.cells R.slots none res) args s R.cells R.slots (fr E)) (F0 m 12 ls []) := by
  intro n
  induction n with
  | zero => intro x0 x1 x2 x3 σ H locs cells slots ls I hl hf; exact nomatch (show none = some res from hf)
  | succ n ih =>
    intro x0 x1 x2 x3 σ H locs cells slots ls I hl hf
    obtain ⟨⟨hx, hb, hml, hown, hts⟩, -⟩ := id X
    rw [fJ3_circularClear_12.eq_2] at hf
    refine lv_iload_n hx hb dJ3_circularClear_12 rfl (lv_at hl 1 rfl) ?_
    refine lv_iload_n hx hb dJ3_circularClear_13 rfl (lv_at hl 3 rfl) ?_
    refine lv_icmp_ge (tgt := 27) hx hb dJ3_circularClear_14 (by decide) (fun c_14 => ?_) (fun c_14 => ?_)
    · have hf := ip c_14 hf
      refine lv_iload_n hx hb dJ3_circularClear_27 rfl (lv_at hl 3 rfl) ?_
      refine lv_iload_n hx hb dJ3_circularClear_28 rfl (lv_at hl 2 rfl) ?_
      refine lv_icmp_ne (tgt := 35) hx hb dJ3_circularClear_29 (by decide) (fun c_29 => ?_) (fun c_29 => ?_)
      · have hf := im c_29 hf
        refine lv_iconst (v := 0) hx hb dJ3_circularClear_35 (by decide) ?_
        refine lv_istore_n (lv' := [(1, .int (0 : Int32)), (0, .ref x0), (2, .int x2), (3, .int x3)]) hx hb dJ3_circularClear_36 rfl hl (by decide) rfl (fun ls hl => ?_)
        refine lv_iload_n hx hb dJ3_circularClear_37 rfl (lv_at hl 2 rfl) ?_
        refine lv_istore_n (lv' := [(3, .int x2), (1, .int (0 : Int32)), (0, .ref x0), (2, .int x2)]) hx hb dJ3_circularClear_38 rfl hl (by decide) rfl (fun ls hl => ?_)
        refine lv_goto (tgt := 12) hx hb dJ3_circularClear_39 (by decide) ?_
        exact ih x0 (0 : Int32) x2 x2 σ _ _ _ _ _ I (lv_sub hl [2, 1, 3, 0] rfl) hf
      · have hf := ip c_29 hf
        refine lv_goto (tgt := 42) hx hb dJ3_circularClear_32 (by decide) ?_
        cases os hf
        exact r_vret X I dJ3_circularClear_42
    · have hf := im c_14 hf
      refine lv_aload_n hx hb dJ3_circularClear_17 rfl (lv_at hl 0 rfl) ?_
      refine lv_iload_n hx hb dJ3_circularClear_18 rfl (lv_at hl 1 rfl) ?_
      refine lv_null hx hb dJ3_circularClear_19 ?_
      obtain ⟨σ_1, eσ_1, hf⟩ := ob hf
      refine g_aast (v := none) hX X I (by decide) eσ_1 dJ3_circularClear_20 (fun H locs I => ?_)
      obtain ⟨x1_2, ex1_2, hf⟩ := ol hf
      refine lv_iinc (v := x1_2) (lv' := [(1, .int x1_2), (0, .ref x0), (2, .int x2), (3, .int x3)]) hx hb dJ3_circularClear_21 hl (k := 1) rfl ex1_2 (by decide) rfl (fun ls hl => ?_)
      refine lv_goto (tgt := 12) hx hb dJ3_circularClear_24 (by decide) ?_
      exact ih x0 x1_2 x2 x3 σ_1 _ _ _ _ _ I (lv_sub hl [1, 0, 2, 3] rfl) hf
theorem wJ3_circularClear_11 {E : EV} {l : Launch} {p : Program} {e : Env} {s : State} {m : MethodId} {args : Array Value} {below : List Frame} {meth : Method} {c : Code} {R : Room} {res : St} (hX : XK E) (hR : 0 ≤ R.frames ∧ 0 ≤ R.locals) (X : MX E p s m args meth c cJ3_circularClear 4 none RJ3 "circularClear") (N : Nat) : ∀ (x0 : Nat) (x1 : Int32) (x2 : Int32) (y0 : Int32) (σ : St) (H : Heap) (locs : List Loc) (cells slots : Nat) (ls : Array Slot), WI E R s σ H locs cells slots → lv_has ls 4 [(0, .ref x0), (1, .int x1), (2, .int x2)] → fJ3_circularClear_11 N x0 x1 x2 y0 σ = some res → W p l e R s m args below meth c H locs cells slots (MQ below (Qd E R.cells R.slots none res) args s R.cells R.slots (fr E)) (F0 m 11 ls [.int y0]) := by
  intro x0 x1 x2 y0 σ H locs cells slots ls I hl hf
  obtain ⟨⟨hx, hb, hml, hown, hts⟩, -⟩ := id X
  unfold fJ3_circularClear_11 at hf
  refine lv_istore_n (lv' := [(3, .int y0), (0, .ref x0), (1, .int x1), (2, .int x2)]) hx hb dJ3_circularClear_11 rfl hl (by decide) rfl (fun ls hl => ?_)
  exact wJ3_circularClear_12 hX hR X N N x0 x1 x2 y0 σ _ _ _ _ _ I (lv_sub hl [1, 2, 3, 0] rfl) hf
theorem wJ3_circularClear_0 {E : EV} {l : Launch} {p : Program} {e : Env} {s : State} {m : MethodId} {args : Array Value} {below : List Frame} {meth : Method} {c : Code} {R : Room} {res : St} (hX : XK E) (hR : 0 ≤ R.frames ∧ 0 ≤ R.locals) (X : MX E p s m args meth c cJ3_circularClear 4 none RJ3 "circularClear") (N : Nat) : ∀ (x0 : Nat) (x1 : Int32) (x2 : Int32) (σ : St) (H : Heap) (locs : List Loc) (cells slots : Nat) (ls : Array Slot), WI E R s σ H locs cells slots → lv_has ls 4 [(0, .ref x0), (1, .int x1), (2, .int x2)] → fJ3_circularClear N σ x0 x1 x2 = some res → W p l e R s m args below meth c H locs cells slots (MQ below (Qd E R.cells R.slots none res) args s R.cells R.slots (fr E)) (F0 m 0 ls []) := by
  intro x0 x1 x2 σ H locs cells slots ls I hl hf
  obtain ⟨⟨hx, hb, hml, hown, hts⟩, -⟩ := id X
  unfold fJ3_circularClear at hf
  refine lv_iload_n hx hb dJ3_circularClear_0 rfl (lv_at hl 1 rfl) ?_
  refine lv_iload_n hx hb dJ3_circularClear_1 rfl (lv_at hl 2 rfl) ?_
  refine lv_icmp_gt (tgt := 9) hx hb dJ3_circularClear_2 (by decide) (fun c_2 => ?_) (fun c_2 => ?_)
  · have hf := ip c_2 hf
    refine lv_aload_n hx hb dJ3_circularClear_9 rfl (lv_at hl 0 rfl) ?_
    obtain ⟨v_3, ev_3, hf⟩ := ob hf
    refine g_alen X I ev_3 dJ3_circularClear_10 ?_
    exact wJ3_circularClear_11 hX hR X N x0 x1 x2 v_3 σ _ _ _ _ _ I (lv_sub hl [0, 1, 2] rfl) hf
  · have hf := im c_2 hf
    refine lv_iload_n hx hb dJ3_circularClear_5 rfl (lv_at hl 2 rfl) ?_
    refine lv_goto (tgt := 11) hx hb dJ3_circularClear_6 (by decide) ?_
    exact wJ3_circularClear_11 hX hR X N x0 x1 x2 x2 σ _ _ _ _ _ I (lv_sub hl [0, 1, 2] rfl) hf
theorem mJ3_circularClear {E : EV} {l : Launch} {N : Nat} {σ : St} {x0 : Nat} {x1 : Int32} {x2 : Int32} {res : St} (hX : XK E) (hf : fJ3_circularClear N σ x0 x1 x2 = some res) : CM E l yJ3_circularClear (ws_ yJ3_circularClear cJ3_circularClear 4 none) 0 0 [.ref x0, .int x1, .int x2] σ none res := by
  refine CM.of hX.1 (by decide) rfl rfl (Nat.le_of_ble_eq_true rfl) ?_
  intro p e s m below meth c X I ls hl
  exact wJ3_circularClear_0 hX ⟨Nat.le_refl _, Nat.le_refl _⟩ X N _ _ _ _ _ _ _ _ _ I hl hf
/-! java/util/ArrayDeque.clear()V imp=True fuel=True kap=False rt=None thr=False -/
theorem gfJ3_3 : ∀ q ∈ ([(22, 0)] : List (Nat × Nat)), GF RJ3 3 q := List.forall_mem_cons.mpr ⟨⟨RJ3, TJ3, 3, _, rfl, in_J3, by decide, q286, Or.inl rfl⟩, fun _ h => by cases h⟩
theorem gfJ3_24 : ∀ q ∈ ([(22, 1)] : List (Nat × Nat)), GF RJ3 24 q := List.forall_mem_cons.mpr ⟨⟨RJ3, TJ3, 3, _, rfl, in_J3, by decide, q289, Or.inl rfl⟩, fun _ h => by cases h⟩
theorem gfJ3_20 : ∀ q ∈ ([(22, 2)] : List (Nat × Nat)), GF RJ3 20 q := List.forall_mem_cons.mpr ⟨⟨RJ3, TJ3, 3, _, rfl, in_J3, by decide, q290, Or.inl rfl⟩, fun _ h => by cases h⟩
theorem lvJ3_181 : GoodIn lw_all (va_wsS RJ3 181 yJ3_circularClear (ws_ yJ3_circularClear cJ3_circularClear 4 none)) := lw_S q1191 q1192 q119 q1193
theorem hdJ3_181 : yJ3_circularClear.cls ≠ "java/lang/invoke/MethodHandle" ∧ yJ3_circularClear.cls ≠ "java/lang/invoke/VarHandle" ∧ (parseMethodDescriptor yJ3_circularClear.desc).map (fun d => d.parameters.length) = some 3 := by decide +kernel
theorem pfJ3_20 : ∀ q ∈ ([(22, 2)] : List (Nat × Nat)), PF RJ3 20 .int q := List.forall_mem_cons.mpr ⟨⟨RJ3, TJ3, 3, _, tyJ3, rfl, in_J3, by decide, q290, Or.inl rfl, tyJ3_ok, nmJ3, rfl, rfl⟩, fun _ h => by cases h⟩
theorem pfJ3_24 : ∀ q ∈ ([(22, 1)] : List (Nat × Nat)), PF RJ3 24 .int q := List.forall_mem_cons.mpr ⟨⟨RJ3, TJ3, 3, _, tyJ3, rfl, in_J3, by decide, q289, Or.inl rfl, tyJ3_ok, nmJ3, rfl, rfl⟩, fun _ h => by cases h⟩
def fJ3_clear (N : Nat) (σ : St) (x0 : Nat) : Option St := (gR σ x0 [(22, 0)]).bind fun v_1 : Option Nat => (gI σ x0 [(22, 1)]).bind fun v_2 : Int32 => (gI σ x0 [(22, 2)]).bind fun v_3 : Int32 => (v_1).bind fun a_4 : Nat => (fJ3_circularClear N σ a_4 v_2 v_3).bind fun σ_6 : St => (pV σ_6 x0 [(22, 2)] (.int (0 : Int32))).bind fun σ_7 : St => (pV σ_7 x0 [(22, 1)] (.int (0 : Int32))).bind fun σ_8 : St => some σ_8
theorem wJ3_clear_0 {E : EV} {l : Launch} {p : Program} {e : Env} {s : State} {m : MethodId} {args : Array Value} {below : List Frame} {meth : Method} {c : Code} {R : Room} {res : St} (hX : XK E) (hR : 1 ≤ R.frames ∧ 23 ≤ R.locals) (X : MX E p s m args meth c cJ3_clear 1 none RJ3 "clear") (N : Nat) : ∀ (x0 : Nat) (σ : St) (H : Heap) (locs : List Loc) (cells slots : Nat) (ls : Array Slot), WI E R s σ H locs cells slots → lv_has ls 1 [(0, .ref x0)] → fJ3_clear N σ x0 = some res → W p l e R s m args below meth c H locs cells slots (MQ below (Qd E R.cells R.slots none res) args s R.cells R.slots (fr E)) (F0 m 0 ls []) := by
  intro x0 σ H locs cells slots ls I hl hf
  obtain ⟨⟨hx, hb, hml, hown, hts⟩, -⟩ := id X
  unfold fJ3_clear at hf
  refine lv_aload_n hx hb dJ3_clear_0 rfl (lv_at hl 0 rfl) ?_
  obtain ⟨v_1, ev_1, hf⟩ := ob hf
  refine g_get X I gfJ3_3 (gR_in ev_1) dJ3_clear_1 ?_
  refine lv_aload_n hx hb dJ3_clear_4 rfl (lv_at hl 0 rfl) ?_
  obtain ⟨v_2, ev_2, hf⟩ := ob hf
  refine g_get X I gfJ3_24 (gI_in ev_2) dJ3_clear_5 ?_
  refine lv_aload_n hx hb dJ3_clear_8 rfl (lv_at hl 0 rfl) ?_
  obtain ⟨v_3, ev_3, hf⟩ := ob hf
  refine g_get X I gfJ3_20 (gI_in ev_3) dJ3_clear_9 ?_
  obtain ⟨a_4, ea_4, hga_4⟩ := ob hf
  have hla_4 := hl
  have Ia_4 := I
  subst ea_4
  have hf := hga_4
  have hl := hla_4
  have I := Ia_4
  obtain ⟨σ_6, ev_5, hf⟩ := ob hf
  refine cg_S (r := none) (σ' := σ_6) (rs := []) (rest := []) (As := [.ref a_4, .int v_2, .int v_3]) X I (mJ3_circularClear hX ev_5) lvJ3_181 hdJ3_181 ⟨Nat.le_trans (Nat.le_of_ble_eq_true rfl) hR.1, Nat.le_trans (Nat.le_of_ble_eq_true rfl) hR.2⟩ rfl hl.1 rfl (Nat.le_of_ble_eq_true rfl) rfl dJ3_clear_12 (fun H locs cells slots I => ?_)
  refine lv_aload_n hx hb dJ3_clear_15 rfl (lv_at hl 0 rfl) ?_
  refine lv_aload_n hx hb dJ3_clear_16 rfl (lv_at hl 0 rfl) ?_
  refine lv_iconst (v := 0) hx hb dJ3_clear_17 (by decide) ?_
  refine lv_dup_x1 hx hb dJ3_clear_18 rfl rfl ?_
  obtain ⟨σ_7, eσ_7, hf⟩ := ob hf
  refine g_put X I pfJ3_20 rfl rfl eσ_7 dJ3_clear_19 (fun H locs I => ?_)
  obtain ⟨σ_8, eσ_8, hf⟩ := ob hf
  refine g_put X I pfJ3_24 rfl rfl eσ_8 dJ3_clear_22 (fun H locs I => ?_)
  cases os hf
  exact r_vret X I dJ3_clear_25
theorem mJ3_clear {E : EV} {l : Launch} {N : Nat} {σ : St} {x0 : Nat} {res : St} (hX : XK E) (hf : fJ3_clear N σ x0 = some res) : CM E l yJ3_clear (ws_ yJ3_clear cJ3_clear 1 none) 1 23 [.ref x0] σ none res := by
  refine CM.of hX.1 (by decide) rfl rfl (Nat.le_of_ble_eq_true rfl) ?_
  intro p e s m below meth c X I ls hl
  exact wJ3_clear_0 hX ⟨Nat.le_refl _, Nat.le_refl _⟩ X N _ _ _ _ _ _ _ I hl hf
/-! SharedTaxis.load(I)I imp=True fuel=True kap=True rt=I thr=True -/
theorem gfX1_151 : ∀ q ∈ ([(0, 1)] : List (Nat × Nat)), GF RX1 151 q := List.forall_mem_cons.mpr ⟨⟨RX1, TX1, 7, _, rfl, in_X1, by decide, q300, Or.inl rfl⟩, fun _ h => by cases h⟩
theorem lvX1_125 : GoodIn lw_all (va_wsS RX1 125 yX1_inRange (ws_ yX1_inRange cX1_inRange 6 (some .boolean))) := lw_S q811 q812 q113 q813
theorem hdX1_125 : yX1_inRange.cls ≠ "java/lang/invoke/MethodHandle" ∧ yX1_inRange.cls ≠ "java/lang/invoke/VarHandle" ∧ (parseMethodDescriptor yX1_inRange.desc).map (fun d => d.parameters.length) = some 3 := by decide +kernel
theorem lvX1_158 : GoodIn lw_all (va_wsS RX1 158 yX1_require (ws_ yX1_require cX1_require 1 none)) := lw_S q1203 q1204 q113 q1205
theorem hdX1_158 : yX1_require.cls ≠ "java/lang/invoke/MethodHandle" ∧ yX1_require.cls ≠ "java/lang/invoke/VarHandle" ∧ (parseMethodDescriptor yX1_require.desc).map (fun d => d.parameters.length) = some 1 := by decide +kernel
theorem noX1_161 : NO RX1 161 4 2 [.null, .null] := ⟨RX5, TX5, tyX5, rfl, in_X5, tyX5_ok, by decide, q1211, q1212, q125⟩
theorem noX1_163 : NO RX1 163 5 8 [.null, .int 0, .null, .int 0, .int 0, .int 0, .int 0, .null] := ⟨RX6, TX6, tyX6, rfl, in_X6, tyX6_ok, by decide, q1213, q1214, q126⟩
theorem gfX1_69 : ∀ q ∈ ([(0, 0)] : List (Nat × Nat)), GF RX1 69 q := List.forall_mem_cons.mpr ⟨⟨RX1, TX1, 7, _, rfl, in_X1, by decide, q299, Or.inl rfl⟩, fun _ h => by cases h⟩
theorem lvX1_167 : GoodIn lw_all (ws_ yX6_init cX6_init 4 none) ∧ Cond.initialized yX6_init.cls ∈ lw_all ∧ Cond.methodLink RX1 167 yX6_init ∈ lw_all ∧ Cond.instanceMethod yX6_init ∈ lw_all ∧ yX6_init.name = "<init>" := ⟨lw_meth q1218, q126, q1216, q1217, rfl⟩
theorem hdX1_167 : yX6_init.cls ≠ "java/lang/invoke/MethodHandle" ∧ yX6_init.cls ≠ "java/lang/invoke/VarHandle" ∧ (parseMethodDescriptor yX6_init.desc).map (fun d => d.parameters.length) = some 3 := by decide +kernel
theorem lvX1_170 : GoodIn lw_all (ws_ yX5_init cX5_init 2 none) ∧ Cond.initialized yX5_init.cls ∈ lw_all ∧ Cond.methodLink RX1 170 yX5_init ∈ lw_all ∧ Cond.instanceMethod yX5_init ∈ lw_all ∧ yX5_init.name = "<init>" := ⟨lw_meth q1333, q125, q1331, q1332, rfl⟩
theorem hdX1_170 : yX5_init.cls ≠ "java/lang/invoke/MethodHandle" ∧ yX5_init.cls ≠ "java/lang/invoke/VarHandle" ∧ (parseMethodDescriptor yX5_init.desc).map (fun d => d.parameters.length) = some 1 := by decide +kernel
theorem lvX1_173 : GoodIn lw_all (wsV RX1 173 RX5 yX5_read (ws_ yX5_read cX5_read 2 (some (.object "SharedTaxis$State")))) := lw_V q1342 q1343 q1344 q125 q1345
theorem hdX1_173 : yX5_read.cls = RX5 ∧ yX5_read.cls ≠ "java/lang/invoke/MethodHandle" ∧ yX5_read.cls ≠ "java/lang/invoke/VarHandle" ∧ (parseMethodDescriptor yX5_read.desc).map (fun d => d.parameters.length) = some 0 := by decide +kernel
theorem pfX1_87 : ∀ q ∈ ([(0, 3)] : List (Nat × Nat)), PF RX1 87 (.object "SharedTaxis$State") q := List.forall_mem_cons.mpr ⟨⟨RX1, TX1, 7, _, tyX1, rfl, in_X1, by decide, q303, Or.inl rfl, tyX1_ok, nmX1, rfl, rfl⟩, fun _ h => by cases h⟩
theorem pfX1_151 : ∀ q ∈ ([(0, 1)] : List (Nat × Nat)), PF RX1 151 .int q := List.forall_mem_cons.mpr ⟨⟨RX1, TX1, 7, _, tyX1, rfl, in_X1, by decide, q300, Or.inl rfl, tyX1_ok, nmX1, rfl, rfl⟩, fun _ h => by cases h⟩
theorem pfX1_73 : ∀ q ∈ ([(0, 2)] : List (Nat × Nat)), PF RX1 73 .int q := List.forall_mem_cons.mpr ⟨⟨RX1, TX1, 7, _, tyX1, rfl, in_X1, by decide, q301, Or.inl rfl, tyX1_ok, nmX1, rfl, rfl⟩, fun _ h => by cases h⟩
theorem gfX1_93 : ∀ q ∈ ([(0, 5)] : List (Nat × Nat)), GF RX1 93 q := List.forall_mem_cons.mpr ⟨⟨RX1, TX1, 7, _, rfl, in_X1, by decide, q305, Or.inl rfl⟩, fun _ h => by cases h⟩
theorem lvX1_184 : GoodIn lw_all (wsV RX1 184 RJ3 yJ3_clear (ws_ yJ3_clear cJ3_clear 1 none)) := lw_V q1187 q1188 q1189 q119 q1190
theorem hdX1_184 : yJ3_clear.cls = RJ3 ∧ yJ3_clear.cls ≠ "java/lang/invoke/MethodHandle" ∧ yJ3_clear.cls ≠ "java/lang/invoke/VarHandle" ∧ (parseMethodDescriptor yJ3_clear.desc).map (fun d => d.parameters.length) = some 0 := by decide +kernel
theorem pfX1_187 : ∀ q ∈ ([(0, 4)] : List (Nat × Nat)), PF RX1 187 (.object "SharedTaxis$State") q := List.forall_mem_cons.mpr ⟨⟨RX1, TX1, 7, _, tyX1, rfl, in_X1, by decide, q304, Or.inl rfl, tyX1_ok, nmX1, rfl, rfl⟩, fun _ h => by cases h⟩
theorem gfX1_87 : ∀ q ∈ ([(0, 3)] : List (Nat × Nat)), GF RX1 87 q := List.forall_mem_cons.mpr ⟨⟨RX1, TX1, 7, _, rfl, in_X1, by decide, q303, Or.inl rfl⟩, fun _ h => by cases h⟩
theorem gfX1_133 : ∀ q ∈ ([(1, 5)] : List (Nat × Nat)), GN RX1 133 q := List.forall_mem_cons.mpr ⟨⟨RX2, TX2, 7, _, rfl, in_X2, by decide, q257⟩, fun _ h => by cases h⟩
theorem lvX1_137_J2 : GoodIn lw_all (va_wsF RX1 137 RJ2 ⟨"java/util/List", "size", "()I"⟩ yJ2_size (ws_ yJ2_size cJ2_size 1 (some .int))) ∧ (RJ2, ⟨"java/util/List", "size", "()I"⟩, yJ2_size) ∈ FWL := ⟨lw_good (List.forall_mem_cons.mpr ⟨q1554, List.forall_mem_cons.mpr ⟨q381, List.forall_mem_cons.mpr ⟨q383, List.forall_mem_cons.mpr ⟨q118, fun w h => (lw_meth q385 w h).1⟩⟩⟩⟩), List.mem_of_getElem? (i := 16) rfl⟩
theorem hdX1_137_J2 : (⟨"java/util/List", "size", "()I"⟩ : MethodName).cls ≠ "java/lang/invoke/MethodHandle" ∧ (⟨"java/util/List", "size", "()I"⟩ : MethodName).cls ≠ "java/lang/invoke/VarHandle" ∧ (parseMethodDescriptor (⟨"java/util/List", "size", "()I"⟩ : MethodName).desc).map (fun d => d.parameters.length) = some 0 := by decide +kernel
theorem gfX1_178 : ∀ q ∈ ([(6, 0), (7, 0), (8, 0), (9, 0)] : List (Nat × Nat)), GN RX1 178 q := List.forall_mem_cons.mpr ⟨⟨RX8, TX8, 7, _, rfl, in_X8, by decide, q1393⟩, List.forall_mem_cons.mpr ⟨⟨RX9, TX9, 7, _, rfl, in_X9, by decide, q1393⟩, List.forall_mem_cons.mpr ⟨⟨RX10, TX10, 7, _, rfl, in_X10, by decide, q1393⟩, List.forall_mem_cons.mpr ⟨⟨RX11, TX11, 7, _, rfl, in_X11, by decide, q1393⟩, fun _ h => by cases h⟩⟩⟩⟩
theorem lvX1_181_X8 : GoodIn lw_all (va_wsU RX1 181 RX8 RX7 ⟨"SharedTaxis$TextException", "code", "()I"⟩ yX8_code (ws_ yX8_code cX8_code 1 (some .int))) ∧ Cond.declares ⟨RX7, (⟨"SharedTaxis$TextException", "code", "()I"⟩ : MethodName).name, (⟨"SharedTaxis$TextException", "code", "()I"⟩ : MethodName).desc⟩ ∈ lw_tbl := ⟨lw_good (List.forall_mem_cons.mpr ⟨q1538, List.forall_mem_cons.mpr ⟨q1540, List.forall_mem_cons.mpr ⟨q1550, List.forall_mem_cons.mpr ⟨q1551, List.forall_mem_cons.mpr ⟨q141, fun w h => (lw_meth q1552 w h).1⟩⟩⟩⟩⟩), q1539⟩
theorem hdX1_181_X8 : RX7 ≠ "java/lang/invoke/MethodHandle" ∧ RX7 ≠ "java/lang/invoke/VarHandle" ∧ (parseMethodDescriptor (⟨"SharedTaxis$TextException", "code", "()I"⟩ : MethodName).desc).map (fun d => d.parameters.length) = some 0 := by decide +kernel
theorem lvX1_181_X9 : GoodIn lw_all (va_wsU RX1 181 RX9 RX7 ⟨"SharedTaxis$TextException", "code", "()I"⟩ yX9_code (ws_ yX9_code cX9_code 1 (some .int))) ∧ Cond.declares ⟨RX7, (⟨"SharedTaxis$TextException", "code", "()I"⟩ : MethodName).name, (⟨"SharedTaxis$TextException", "code", "()I"⟩ : MethodName).desc⟩ ∈ lw_tbl := ⟨lw_good (List.forall_mem_cons.mpr ⟨q1538, List.forall_mem_cons.mpr ⟨q1540, List.forall_mem_cons.mpr ⟨q1547, List.forall_mem_cons.mpr ⟨q1548, List.forall_mem_cons.mpr ⟨q142, fun w h => (lw_meth q1549 w h).1⟩⟩⟩⟩⟩), q1539⟩
theorem hdX1_181_X9 : RX7 ≠ "java/lang/invoke/MethodHandle" ∧ RX7 ≠ "java/lang/invoke/VarHandle" ∧ (parseMethodDescriptor (⟨"SharedTaxis$TextException", "code", "()I"⟩ : MethodName).desc).map (fun d => d.parameters.length) = some 0 := by decide +kernel
theorem lvX1_181_X10 : GoodIn lw_all (va_wsU RX1 181 RX10 RX7 ⟨"SharedTaxis$TextException", "code", "()I"⟩ yX10_code (ws_ yX10_code cX10_code 1 (some .int))) ∧ Cond.declares ⟨RX7, (⟨"SharedTaxis$TextException", "code", "()I"⟩ : MethodName).name, (⟨"SharedTaxis$TextException", "code", "()I"⟩ : MethodName).desc⟩ ∈ lw_tbl := ⟨lw_good (List.forall_mem_cons.mpr ⟨q1538, List.forall_mem_cons.mpr ⟨q1540, List.forall_mem_cons.mpr ⟨q1544, List.forall_mem_cons.mpr ⟨q1545, List.forall_mem_cons.mpr ⟨q143, fun w h => (lw_meth q1546 w h).1⟩⟩⟩⟩⟩), q1539⟩
theorem hdX1_181_X10 : RX7 ≠ "java/lang/invoke/MethodHandle" ∧ RX7 ≠ "java/lang/invoke/VarHandle" ∧ (parseMethodDescriptor (⟨"SharedTaxis$TextException", "code", "()I"⟩ : MethodName).desc).map (fun d => d.parameters.length) = some 0 := by decide +kernel
theorem lvX1_181_X11 : GoodIn lw_all (va_wsU RX1 181 RX11 RX7 ⟨"SharedTaxis$TextException", "code", "()I"⟩ yX11_code (ws_ yX11_code cX11_code 1 (some .int))) ∧ Cond.declares ⟨RX7, (⟨"SharedTaxis$TextException", "code", "()I"⟩ : MethodName).name, (⟨"SharedTaxis$TextException", "code", "()I"⟩ : MethodName).desc⟩ ∈ lw_tbl := ⟨lw_good (List.forall_mem_cons.mpr ⟨q1538, List.forall_mem_cons.mpr ⟨q1540, List.forall_mem_cons.mpr ⟨q1541, List.forall_mem_cons.mpr ⟨q1542, List.forall_mem_cons.mpr ⟨q144, fun w h => (lw_meth q1543 w h).1⟩⟩⟩⟩⟩), q1539⟩
theorem hdX1_181_X11 : RX7 ≠ "java/lang/invoke/MethodHandle" ∧ RX7 ≠ "java/lang/invoke/VarHandle" ∧ (parseMethodDescriptor (⟨"SharedTaxis$TextException", "code", "()I"⟩ : MethodName).desc).map (fun d => d.parameters.length) = some 0 := by decide +kernel
def fX1_load (N : Nat) (κ : Nat → Nat) (σ : St) (x0 : Nat) (x1 : Int32) : Option ((Int32 ⊕ Nat) × St) := (gI σ x0 [(0, 1)]).bind fun v_1 : Int32 => (fX1_inRange σ (x1.toInt64) (0 : Int64) (v_1.toInt64)).bind fun v_2 : Int32 => (fX1_require σ v_2).bind fun (v_4, σ_5) => se v_4 (fun v_6 => (nH σ_5 2 (.inr (4, [.null, .null]))).bind fun (q_8a, q_8s) => (nH q_8s 8 (.inr (5, [.null, .int 0, .null, .int 0, .int 0, .int 0, .int 0, .null]))).bind fun (q_9a, q_9s) => (gR q_9s x0 [(0, 0)]).bind fun v_10 : Option Nat => (v_10).bind fun a_11 : Nat => (fX6_init N κ q_9s q_9a a_11 x1 (κ 117)).bind fun σ_13 : St => (fX5_init σ_13 q_8a q_9a).bind fun σ_15 : St => (isC σ_15 q_8a 4).bind fun u_16 : Unit => (fX5_read N κ σ_15 q_8a).bind fun (v_17, σ_18) => se v_17 (fun v_19 => (pV σ_18 x0 [(0, 3)] (.ref v_19)).bind fun σ_21 : St => (pV σ_21 x0 [(0, 1)] (.int (0 : Int32))).bind fun σ_22 : St => (pV σ_22 x0 [(0, 2)] (.int (-1 : Int32))).bind fun σ_23 : St => (gR σ_23 x0 [(0, 5)]).bind fun v_24 : Option Nat => (v_24).bind fun a_25 : Nat => (isC σ_23 a_25 22).bind fun u_26 : Unit => (fJ3_clear N σ_23 a_25).bind fun σ_28 : St => (pV σ_28 x0 [(0, 4)] (.null)).bind fun σ_29 : St => (gR σ_29 x0 [(0, 3)]).bind fun v_30 : Option Nat => (v_30).bind fun a_31 : Nat => (gR σ_29 a_31 [(1, 5)]).bind fun v_32 : Option Nat => (v_32).bind fun a_33 : Nat => (isC σ_29 a_33 21).bind fun u_34 : Unit => (fJ2_size σ_29 a_33).bind fun v_35 : Int32 => some (.inl v_35, σ_29)) (fun q_20 => (clsX σ_18 q_20).bind fun c_37 : Nat => if c_37 = 6 then (gI σ_18 q_20 [(6, 0), (7, 0), (8, 0), (9, 0)]).bind fun v_38 : Int32 => (pV σ_18 x0 [(0, 2)] (.int v_38)).bind fun σ_39 : St => (clsX σ_39 q_20).bind fun c_40 : Nat => if c_40 = 6 then ((fX8_code σ_39 q_20).bind fun v_41 : Int32 => lt ((-10 : Int32) - v_41) fun x3_42 : Int32 => (pV σ_39 x0 [(0, 1)] (.int (0 : Int32))).bind fun σ_43 : St => some (.inl x3_42, σ_43)) else if c_40 = 7 then ((fX9_code σ_39 q_20).bind fun v_44 : Int32 => lt ((-10 : Int32) - v_44) fun x3_45 : Int32 => (pV σ_39 x0 [(0, 1)] (.int (0 : Int32))).bind fun σ_46 : St => some (.inl x3_45, σ_46)) else if c_40 = 8 then ((fX10_code σ_39 q_20).bind fun v_47 : Int32 => lt ((-10 : Int32) - v_47) fun x3_48 : Int32 => (pV σ_39 x0 [(0, 1)] (.int (0 : Int32))).bind fun σ_49 : St => some (.inl x3_48, σ_49)) else if c_40 = 9 then ((fX11_code σ_39 q_20).bind fun v_50 : Int32 => lt ((-10 : Int32) - v_50) fun x3_51 : Int32 => (pV σ_39 x0 [(0, 1)] (.int (0 : Int32))).bind fun σ_52 : St => some (.inl x3_51, σ_52)) else none else if c_37 = 7 then (gI σ_18 q_20 [(6, 0), (7, 0), (8, 0), (9, 0)]).bind fun v_53 : Int32 => (pV σ_18 x0 [(0, 2)] (.int v_53)).bind fun σ_54 : St => (clsX σ_54 q_20).bind fun c_55 : Nat => if c_55 = 6 then ((fX8_code σ_54 q_20).bind fun v_56 : Int32 => lt ((-10 : Int32) - v_56) fun x3_57 : Int32 => (pV σ_54 x0 [(0, 1)] (.int (0 : Int32))).bind fun σ_58 : St => some (.inl x3_57, σ_58)) else if c_55 = 7 then ((fX9_code σ_54 q_20).bind fun v_59 : Int32 => lt ((-10 : Int32) - v_59) fun x3_60 : Int32 => (pV σ_54 x0 [(0, 1)] (.int (0 : Int32))).bind fun σ_61 : St => some (.inl x3_60, σ_61)) else if c_55 = 8 then ((fX10_code σ_54 q_20).bind fun v_62 : Int32 => lt ((-10 : Int32) - v_62) fun x3_63 : Int32 => (pV σ_54 x0 [(0, 1)] (.int (0 : Int32))).bind fun σ_64 : St => some (.inl x3_63, σ_64)) else if c_55 = 9 then ((fX11_code σ_54 q_20).bind fun v_65 : Int32 => lt ((-10 : Int32) - v_65) fun x3_66 : Int32 => (pV σ_54 x0 [(0, 1)] (.int (0 : Int32))).bind fun σ_67 : St => some (.inl x3_66, σ_67)) else none else if c_37 = 8 then (gI σ_18 q_20 [(6, 0), (7, 0), (8, 0), (9, 0)]).bind fun v_68 : Int32 => (pV σ_18 x0 [(0, 2)] (.int v_68)).bind fun σ_69 : St => (clsX σ_69 q_20).bind fun c_70 : Nat => if c_70 = 6 then ((fX8_code σ_69 q_20).bind fun v_71 : Int32 => lt ((-10 : Int32) - v_71) fun x3_72 : Int32 => (pV σ_69 x0 [(0, 1)] (.int (0 : Int32))).bind fun σ_73 : St => some (.inl x3_72, σ_73)) else if c_70 = 7 then ((fX9_code σ_69 q_20).bind fun v_74 : Int32 => lt ((-10 : Int32) - v_74) fun x3_75 : Int32 => (pV σ_69 x0 [(0, 1)] (.int (0 : Int32))).bind fun σ_76 : St => some (.inl x3_75, σ_76)) else if c_70 = 8 then ((fX10_code σ_69 q_20).bind fun v_77 : Int32 => lt ((-10 : Int32) - v_77) fun x3_78 : Int32 => (pV σ_69 x0 [(0, 1)] (.int (0 : Int32))).bind fun σ_79 : St => some (.inl x3_78, σ_79)) else if c_70 = 9 then ((fX11_code σ_69 q_20).bind fun v_80 : Int32 => lt ((-10 : Int32) - v_80) fun x3_81 : Int32 => (pV σ_69 x0 [(0, 1)] (.int (0 : Int32))).bind fun σ_82 : St => some (.inl x3_81, σ_82)) else none else if c_37 = 9 then (gI σ_18 q_20 [(6, 0), (7, 0), (8, 0), (9, 0)]).bind fun v_83 : Int32 => (pV σ_18 x0 [(0, 2)] (.int v_83)).bind fun σ_84 : St => (clsX σ_84 q_20).bind fun c_85 : Nat => if c_85 = 6 then ((fX8_code σ_84 q_20).bind fun v_86 : Int32 => lt ((-10 : Int32) - v_86) fun x3_87 : Int32 => (pV σ_84 x0 [(0, 1)] (.int (0 : Int32))).bind fun σ_88 : St => some (.inl x3_87, σ_88)) else if c_85 = 7 then ((fX9_code σ_84 q_20).bind fun v_89 : Int32 => lt ((-10 : Int32) - v_89) fun x3_90 : Int32 => (pV σ_84 x0 [(0, 1)] (.int (0 : Int32))).bind fun σ_91 : St => some (.inl x3_90, σ_91)) else if c_85 = 8 then ((fX10_code σ_84 q_20).bind fun v_92 : Int32 => lt ((-10 : Int32) - v_92) fun x3_93 : Int32 => (pV σ_84 x0 [(0, 1)] (.int (0 : Int32))).bind fun σ_94 : St => some (.inl x3_93, σ_94)) else if c_85 = 9 then ((fX11_code σ_84 q_20).bind fun v_95 : Int32 => lt ((-10 : Int32) - v_95) fun x3_96 : Int32 => (pV σ_84 x0 [(0, 1)] (.int (0 : Int32))).bind fun σ_97 : St => some (.inl x3_96, σ_97)) else none else none)) (fun q_7 => (isX σ_5 q_7).bind fun uq_7 : Unit => some (.inr q_7, σ_5))
theorem wX1_load_0 {E : EV} {l : Launch} {p : Program} {e : Env} {s : State} {m : MethodId} {args : Array Value} {below : List Frame} {meth : Method} {c : Code} {R : Room} {res : ((Int32 ⊕ Nat) × St)} (hX : XK E) (hR : 15 ≤ R.frames ∧ 335 ≤ R.locals) (X : MX E p s m args meth c cX1_load 5 (some .int) RX1 "load") (XH : MH c [(14, 42, 50, 176), (14, 42, 74, 0), (50, 67, 74, 0), (74, 76, 74, 0)]) (hS : l.stackTraces = false) (N : Nat) : ∀ (x0 : Nat) (x1 : Int32) (σ : St) (H : Heap) (locs : List Loc) (cells slots : Nat) (ls : Array Slot), WI E R s σ H locs cells slots → lv_has ls 5 [(0, .ref x0), (1, .int x1)] → fX1_load N E.2.2.2.1 σ x0 x1 = some res → W p l e R s m args below meth c H locs cells slots (vx_MQ below (QS E R.cells R.slots (sv (fun v => (some (.int v))) res.1) res.2) (XS E R.cells R.slots (sx res.1) res.2) args s R.cells R.slots (fr E)) (F0 m 0 ls []) := by
  intro x0 x1 σ H locs cells slots ls I hl hf
  obtain ⟨⟨hx, hb, hml, hown, hts⟩, -⟩ := id X
  unfold fX1_load at hf
  refine lv_iload_n hx hb dX1_load_0 rfl (lv_at hl 1 rfl) ?_
  refine lv_i2l hx hb dX1_load_1 rfl ?_
  refine lv_lconst (v := 0) hx hb dX1_load_2 (by decide) ?_
  refine lv_aload_n hx hb dX1_load_3 rfl (lv_at hl 0 rfl) ?_
  obtain ⟨v_1, ev_1, hf⟩ := ob hf
  refine g_get X I gfX1_151 (gI_in ev_1) dX1_load_4 ?_
  refine lv_i2l hx hb dX1_load_7 rfl ?_
  obtain ⟨v_2, ev_2, hf⟩ := ob hf
  refine cg_S (r := (some (.int v_2))) (σ' := σ) (rs := [.int v_2]) (rest := []) (As := [.long (x1.toInt64), .long (0 : Int64), .long (v_1.toInt64)]) X I (mX1_inRange hX ev_2) lvX1_125 hdX1_125 ⟨Nat.le_trans (Nat.le_of_ble_eq_true rfl) hR.1, Nat.le_trans (Nat.le_of_ble_eq_true rfl) hR.2⟩ rfl hl.1 rfl (Nat.le_of_ble_eq_true rfl) rfl dX1_load_8 (fun H locs cells slots I => ?_)
  obtain ⟨⟨v_4, σ_5⟩, ev_4, hf⟩ := ob hf
  have hgv_4 := hf
  rcases v_4 with v_6 | q_7
  · have hf := se_l hgv_4
    refine cx_ret (r := none) (rs := []) I (xr_S (σ' := σ_5) (rest := []) (As := [.int v_2]) X I (mX1_require hX hS ev_4) lvX1_158 hdX1_158 ⟨Nat.le_trans (Nat.le_of_ble_eq_true rfl) hR.1, Nat.le_trans (Nat.le_of_ble_eq_true rfl) hR.2⟩ rfl hl.1 rfl (Nat.le_of_ble_eq_true rfl) dX1_load_11) rfl (fun H locs cells slots I => ?_)
    refine lv_aload_n hx hb dX1_load_14 rfl (lv_at hl 0 rfl) ?_
    obtain ⟨⟨q_8a, q_8s⟩, eq_8, hf⟩ := ob hf
    refine g_new X I noX1_161 eq_8 dX1_load_15 (fun H locs cells slots I => ?_)
    refine lv_dup hx hb dX1_load_18 rfl ?_
    obtain ⟨⟨q_9a, q_9s⟩, eq_9, hf⟩ := ob hf
    refine g_new X I noX1_163 eq_9 dX1_load_19 (fun H locs cells slots I => ?_)
    refine lv_dup hx hb dX1_load_22 rfl ?_
    refine lv_aload_n hx hb dX1_load_23 rfl (lv_at hl 0 rfl) ?_
    obtain ⟨v_10, ev_10, hf⟩ := ob hf
    refine g_get X I gfX1_69 (gR_in ev_10) dX1_load_24 ?_
    refine lv_iload_n hx hb dX1_load_27 rfl (lv_at hl 1 rfl) ?_
    refine g_ldcS hX X (tx := ";") (k := 117) (List.mem_of_getElem? (i := 17) rfl) dX1_load_28 ?_
    obtain ⟨a_11, ea_11, hga_11⟩ := ob hf
    have hla_11 := hl
    have Ia_11 := I
    subst ea_11
    have hf := hga_11
    have hl := hla_11
    have I := Ia_11
    obtain ⟨σ_13, ev_12, hf⟩ := ob hf
    refine cm_I (σ' := σ_13) (rs := [.ref q_9a, .ref q_8a, .ref q_8a, .ref x0]) (rest := [.ref q_9a, .ref q_8a, .ref q_8a, .ref x0]) (As := [.ref a_11, .int x1, .ref (E.2.2.2.1 117)]) X I (mX6_init hX ev_12) lvX1_167 hdX1_167 ⟨Nat.le_trans (Nat.le_of_ble_eq_true rfl) hR.1, Nat.le_trans (Nat.le_of_ble_eq_true rfl) hR.2⟩ rfl hl.1 rfl (Nat.le_of_ble_eq_true rfl) rfl dX1_load_30 (fun H locs cells slots I => ?_)
    obtain ⟨σ_15, ev_14, hf⟩ := ob hf
    refine cm_I (σ' := σ_15) (rs := [.ref q_8a, .ref x0]) (rest := [.ref q_8a, .ref x0]) (As := [.ref q_9a]) X I (mX5_init hX ev_14) lvX1_170 hdX1_170 ⟨Nat.le_trans (Nat.le_of_ble_eq_true rfl) hR.1, Nat.le_trans (Nat.le_of_ble_eq_true rfl) hR.2⟩ rfl hl.1 rfl (Nat.le_of_ble_eq_true rfl) rfl dX1_load_33 (fun H locs cells slots I => ?_)
    obtain ⟨u_16, eu_16, hf⟩ := ob hf
    obtain ⟨⟨v_17, σ_18⟩, ev_17, hf⟩ := ob hf
    have hgv_17 := hf
    rcases v_17 with v_19 | q_20
    · have hf := se_l hgv_17
      refine cx_ret (r := (some (.ref v_19))) (rs := [.ref v_19, .ref x0]) I (xr_V (vw := (RX5, TX5, 2)) (ci := 4) (σ' := σ_18) (rest := [.ref x0]) (As := []) X I eu_16 rfl (mX5_read hX ev_17) lvX1_173 hdX1_173 ⟨Nat.le_trans (Nat.le_of_ble_eq_true rfl) hR.1, Nat.le_trans (Nat.le_of_ble_eq_true rfl) hR.2⟩ rfl hl.1 rfl (Nat.le_of_ble_eq_true rfl) dX1_load_36) rfl (fun H locs cells slots I => ?_)
      obtain ⟨σ_21, eσ_21, hf⟩ := ob hf
      refine g_put X I pfX1_87 rfl rfl eσ_21 dX1_load_39 (fun H locs I => ?_)
      refine lv_aload_n hx hb dX1_load_42 rfl (lv_at hl 0 rfl) ?_
      refine lv_iconst (v := 0) hx hb dX1_load_43 (by decide) ?_
      obtain ⟨σ_22, eσ_22, hf⟩ := ob hf
      refine g_put X I pfX1_151 rfl rfl eσ_22 dX1_load_44 (fun H locs I => ?_)
      refine lv_goto (tgt := 84) hx hb dX1_load_47 (by decide) ?_
      refine lv_aload_n hx hb dX1_load_84 rfl (lv_at hl 0 rfl) ?_
      refine lv_iconst (v := (-1)) hx hb dX1_load_85 (by decide) ?_
      obtain ⟨σ_23, eσ_23, hf⟩ := ob hf
      refine g_put X I pfX1_73 rfl rfl eσ_23 dX1_load_86 (fun H locs I => ?_)
      refine lv_aload_n hx hb dX1_load_89 rfl (lv_at hl 0 rfl) ?_
      obtain ⟨v_24, ev_24, hf⟩ := ob hf
      refine g_get X I gfX1_93 (gR_in ev_24) dX1_load_90 ?_
      obtain ⟨a_25, ea_25, hga_25⟩ := ob hf
      have hla_25 := hl
      have Ia_25 := I
      subst ea_25
      have hf := hga_25
      have hl := hla_25
      have I := Ia_25
      obtain ⟨u_26, eu_26, hf⟩ := ob hf
      obtain ⟨σ_28, ev_27, hf⟩ := ob hf
      refine cg_V (vw := (RJ3, TJ3, 3)) (ci := 22) (r := none) (σ' := σ_28) (rs := []) (rest := []) (As := []) X I eu_26 rfl (mJ3_clear hX ev_27) lvX1_184 hdX1_184 ⟨Nat.le_trans (Nat.le_of_ble_eq_true rfl) hR.1, Nat.le_trans (Nat.le_of_ble_eq_true rfl) hR.2⟩ rfl hl.1 rfl (Nat.le_of_ble_eq_true rfl) rfl dX1_load_93 (fun H locs cells slots I => ?_)
      refine lv_aload_n hx hb dX1_load_96 rfl (lv_at hl 0 rfl) ?_
      refine lv_null hx hb dX1_load_97 ?_
      obtain ⟨σ_29, eσ_29, hf⟩ := ob hf
      refine g_put X I pfX1_187 rfl rfl eσ_29 dX1_load_98 (fun H locs I => ?_)
      refine lv_aload_n hx hb dX1_load_101 rfl (lv_at hl 0 rfl) ?_
      obtain ⟨v_30, ev_30, hf⟩ := ob hf
      refine g_get X I gfX1_87 (gR_in ev_30) dX1_load_102 ?_
      obtain ⟨a_31, ea_31, hga_31⟩ := ob hf
      have hla_31 := hl
      have Ia_31 := I
      subst ea_31
      have hf := hga_31
      have hl := hla_31
      have I := Ia_31
      obtain ⟨v_32, ev_32, hf⟩ := ob hf
      refine g_getN hX X I gfX1_133 (gR_in ev_32) dX1_load_105 ?_
      obtain ⟨a_33, ea_33, hga_33⟩ := ob hf
      have hla_33 := hl
      have Ia_33 := I
      subst ea_33
      have hf := hga_33
      have hl := hla_33
      have I := Ia_33
      obtain ⟨u_34, eu_34, hf⟩ := ob hf
      obtain ⟨v_35, ev_35, hf⟩ := ob hf
      refine cg_F (vw := (RJ2, TJ2, 3)) (ci := 21) (r := (some (.int v_35))) (σ' := σ_29) (rs := [.int v_35]) (rest := []) (As := []) hX X I eu_34 rfl (mJ2_size hX ev_35) lvX1_137_J2 hdX1_137_J2 ⟨Nat.le_trans (Nat.le_of_ble_eq_true rfl) hR.1, Nat.le_trans (Nat.le_of_ble_eq_true rfl) hR.2⟩ rfl hl.1 rfl (Nat.le_of_ble_eq_true rfl) rfl dX1_load_108 (fun H locs cells slots I => ?_)
      cases os hf
      exact x_ret (r_iret X I dX1_load_113)
    · have hf := se_r hgv_17
      obtain ⟨c_37, ec_37, hf⟩ := ob hf
      refine cx_thr I (xr_V (vw := (RX5, TX5, 2)) (ci := 4) (σ' := σ_18) (rest := [.ref x0]) (As := []) X I eu_16 rfl (mX5_read hX ev_17) lvX1_173 hdX1_173 ⟨Nat.le_trans (Nat.le_of_ble_eq_true rfl) hR.1, Nat.le_trans (Nat.le_of_ble_eq_true rfl) hR.2⟩ rfl hl.1 rfl (Nat.le_of_ble_eq_true rfl) dX1_load_36) (fun H locs cells slots I => ?_)
      by_cases cc_37_X8 : c_37 = 6
      · have hf := ip cc_37_X8 hf
        refine x_catch (vw := (RX8, TX8, 7)) hX X XH I (cc_37_X8 ▸ ec_37) rfl ((tableOf [(14, 42, 50, 176), (14, 42, 74, 0), (50, 67, 74, 0), (74, 76, 74, 0)]).take 0) _ _ rfl (fun z hz => nomatch hz) rfl (by decide) q1202 q3351 ?_
        refine lv_astore_n (lv' := [(2, .ref q_20), (0, .ref x0), (1, .int x1)]) hx hb dX1_load_50 rfl hl (by decide) rfl (fun ls hl => ?_)
        refine lv_aload_n hx hb dX1_load_51 rfl (lv_at hl 1 rfl) ?_
        refine lv_aload_n hx hb dX1_load_52 rfl (lv_at hl 0 rfl) ?_
        obtain ⟨v_38, ev_38, hf⟩ := ob hf
        refine g_getN hX X I gfX1_178 (gI_in ev_38) dX1_load_53 ?_
        obtain ⟨σ_39, eσ_39, hf⟩ := ob hf
        refine g_put X I pfX1_73 rfl rfl eσ_39 dX1_load_56 (fun H locs I => ?_)
        refine lv_bipush (v := (-10)) hx hb dX1_load_59 (by decide) ?_
        refine lv_aload_n hx hb dX1_load_61 rfl (lv_at hl 0 rfl) ?_
        obtain ⟨c_40, ec_40, hf⟩ := ob hf
        by_cases cc_40_X8 : c_40 = 6
        · have hf := ip cc_40_X8 hf
          obtain ⟨v_41, ev_41, hf⟩ := ob hf
          refine cg_A (vw := (RX8, TX8, 7)) (ci := 6) (r := some (.int v_41)) (σ' := σ_39) (rs := [.int v_41, .int (-10 : Int32)]) (rest := [.int (-10 : Int32)]) (As := []) hX X I (clsX_is (cc_40_X8 ▸ ec_40)) rfl (mX8_code hX ev_41) lvX1_181_X8 hdX1_181_X8 ⟨Nat.le_trans (Nat.le_of_ble_eq_true rfl) hR.1, Nat.le_trans (Nat.le_of_ble_eq_true rfl) hR.2⟩ rfl hl.1 rfl (Nat.le_of_ble_eq_true rfl) rfl dX1_load_62 (fun H locs cells slots I => ?_)
          refine lv_isub hx hb dX1_load_65 ?_
          obtain ⟨x3_42, ex3_42, hf⟩ := ol hf
          refine nm_i ex3_42 ?_
          refine lv_istore_n (lv' := [(3, .int x3_42), (2, .ref q_20), (0, .ref x0), (1, .int x1)]) hx hb dX1_load_66 rfl hl (by decide) rfl (fun ls hl => ?_)
          refine lv_aload_n hx hb dX1_load_67 rfl (lv_at hl 2 rfl) ?_
          refine lv_iconst (v := 0) hx hb dX1_load_68 (by decide) ?_
          obtain ⟨σ_43, eσ_43, hf⟩ := ob hf
          refine g_put X I pfX1_151 rfl rfl eσ_43 dX1_load_69 (fun H locs I => ?_)
          refine lv_iload_n hx hb dX1_load_72 rfl (lv_at hl 0 rfl) ?_
          cases os hf
          exact x_ret (r_iret X I dX1_load_73)
        · have hf := im cc_40_X8 hf
          by_cases cc_40_X9 : c_40 = 7
          · have hf := ip cc_40_X9 hf
            obtain ⟨v_44, ev_44, hf⟩ := ob hf
            refine cg_A (vw := (RX9, TX9, 7)) (ci := 7) (r := some (.int v_44)) (σ' := σ_39) (rs := [.int v_44, .int (-10 : Int32)]) (rest := [.int (-10 : Int32)]) (As := []) hX X I (clsX_is (cc_40_X9 ▸ ec_40)) rfl (mX9_code hX ev_44) lvX1_181_X9 hdX1_181_X9 ⟨Nat.le_trans (Nat.le_of_ble_eq_true rfl) hR.1, Nat.le_trans (Nat.le_of_ble_eq_true rfl) hR.2⟩ rfl hl.1 rfl (Nat.le_of_ble_eq_true rfl) rfl dX1_load_62 (fun H locs cells slots I => ?_)
            refine lv_isub hx hb dX1_load_65 ?_
            obtain ⟨x3_45, ex3_45, hf⟩ := ol hf
            refine nm_i ex3_45 ?_
            refine lv_istore_n (lv' := [(3, .int x3_45), (2, .ref q_20), (0, .ref x0), (1, .int x1)]) hx hb dX1_load_66 rfl hl (by decide) rfl (fun ls hl => ?_)
            refine lv_aload_n hx hb dX1_load_67 rfl (lv_at hl 2 rfl) ?_
            refine lv_iconst (v := 0) hx hb dX1_load_68 (by decide) ?_
            obtain ⟨σ_46, eσ_46, hf⟩ := ob hf
            refine g_put X I pfX1_151 rfl rfl eσ_46 dX1_load_69 (fun H locs I => ?_)
            refine lv_iload_n hx hb dX1_load_72 rfl (lv_at hl 0 rfl) ?_
            cases os hf
            exact x_ret (r_iret X I dX1_load_73)
          · have hf := im cc_40_X9 hf
            by_cases cc_40_X10 : c_40 = 8
            · have hf := ip cc_40_X10 hf
              obtain ⟨v_47, ev_47, hf⟩ := ob hf
              refine cg_A (vw := (RX10, TX10, 7)) (ci := 8) (r := some (.int v_47)) (σ' := σ_39) (rs := [.int v_47, .int (-10 : Int32)]) (rest := [.int (-10 : Int32)]) (As := []) hX X I (clsX_is (cc_40_X10 ▸ ec_40)) rfl (mX10_code hX ev_47) lvX1_181_X10 hdX1_181_X10 ⟨Nat.le_trans (Nat.le_of_ble_eq_true rfl) hR.1, Nat.le_trans (Nat.le_of_ble_eq_true rfl) hR.2⟩ rfl hl.1 rfl (Nat.le_of_ble_eq_true rfl) rfl dX1_load_62 (fun H locs cells slots I => ?_)
              refine lv_isub hx hb dX1_load_65 ?_
              obtain ⟨x3_48, ex3_48, hf⟩ := ol hf
              refine nm_i ex3_48 ?_
              refine lv_istore_n (lv' := [(3, .int x3_48), (2, .ref q_20), (0, .ref x0), (1, .int x1)]) hx hb dX1_load_66 rfl hl (by decide) rfl (fun ls hl => ?_)
              refine lv_aload_n hx hb dX1_load_67 rfl (lv_at hl 2 rfl) ?_
              refine lv_iconst (v := 0) hx hb dX1_load_68 (by decide) ?_
              obtain ⟨σ_49, eσ_49, hf⟩ := ob hf
              refine g_put X I pfX1_151 rfl rfl eσ_49 dX1_load_69 (fun H locs I => ?_)
              refine lv_iload_n hx hb dX1_load_72 rfl (lv_at hl 0 rfl) ?_
              cases os hf
              exact x_ret (r_iret X I dX1_load_73)
            · have hf := im cc_40_X10 hf
              by_cases cc_40_X11 : c_40 = 9
              · have hf := ip cc_40_X11 hf
                obtain ⟨v_50, ev_50, hf⟩ := ob hf
                refine cg_A (vw := (RX11, TX11, 7)) (ci := 9) (r := some (.int v_50)) (σ' := σ_39) (rs := [.int v_50, .int (-10 : Int32)]) (rest := [.int (-10 : Int32)]) (As := []) hX X I (clsX_is (cc_40_X11 ▸ ec_40)) rfl (mX11_code hX ev_50) lvX1_181_X11 hdX1_181_X11 ⟨Nat.le_trans (Nat.le_of_ble_eq_true rfl) hR.1, Nat.le_trans (Nat.le_of_ble_eq_true rfl) hR.2⟩ rfl hl.1 rfl (Nat.le_of_ble_eq_true rfl) rfl dX1_load_62 (fun H locs cells slots I => ?_)
                refine lv_isub hx hb dX1_load_65 ?_
                obtain ⟨x3_51, ex3_51, hf⟩ := ol hf
                refine nm_i ex3_51 ?_
                refine lv_istore_n (lv' := [(3, .int x3_51), (2, .ref q_20), (0, .ref x0), (1, .int x1)]) hx hb dX1_load_66 rfl hl (by decide) rfl (fun ls hl => ?_)
                refine lv_aload_n hx hb dX1_load_67 rfl (lv_at hl 2 rfl) ?_
                refine lv_iconst (v := 0) hx hb dX1_load_68 (by decide) ?_
                obtain ⟨σ_52, eσ_52, hf⟩ := ob hf
                refine g_put X I pfX1_151 rfl rfl eσ_52 dX1_load_69 (fun H locs I => ?_)
                refine lv_iload_n hx hb dX1_load_72 rfl (lv_at hl 0 rfl) ?_
                cases os hf
                exact x_ret (r_iret X I dX1_load_73)
              · have hf := im cc_40_X11 hf
                exact nomatch hf
      · have hf := im cc_37_X8 hf
        by_cases cc_37_X9 : c_37 = 7
        · have hf := ip cc_37_X9 hf
          refine x_catch (vw := (RX9, TX9, 7)) hX X XH I (cc_37_X9 ▸ ec_37) rfl ((tableOf [(14, 42, 50, 176), (14, 42, 74, 0), (50, 67, 74, 0), (74, 76, 74, 0)]).take 0) _ _ rfl (fun z hz => nomatch hz) rfl (by decide) q1202 q3350 ?_
          refine lv_astore_n (lv' := [(2, .ref q_20), (0, .ref x0), (1, .int x1)]) hx hb dX1_load_50 rfl hl (by decide) rfl (fun ls hl => ?_)
          refine lv_aload_n hx hb dX1_load_51 rfl (lv_at hl 1 rfl) ?_
          refine lv_aload_n hx hb dX1_load_52 rfl (lv_at hl 0 rfl) ?_
          obtain ⟨v_53, ev_53, hf⟩ := ob hf
          refine g_getN hX X I gfX1_178 (gI_in ev_53) dX1_load_53 ?_
          obtain ⟨σ_54, eσ_54, hf⟩ := ob hf
          refine g_put X I pfX1_73 rfl rfl eσ_54 dX1_load_56 (fun H locs I => ?_)
          refine lv_bipush (v := (-10)) hx hb dX1_load_59 (by decide) ?_
          refine lv_aload_n hx hb dX1_load_61 rfl (lv_at hl 0 rfl) ?_
          obtain ⟨c_55, ec_55, hf⟩ := ob hf
          by_cases cc_55_X8 : c_55 = 6
          · have hf := ip cc_55_X8 hf
            obtain ⟨v_56, ev_56, hf⟩ := ob hf
            refine cg_A (vw := (RX8, TX8, 7)) (ci := 6) (r := some (.int v_56)) (σ' := σ_54) (rs := [.int v_56, .int (-10 : Int32)]) (rest := [.int (-10 : Int32)]) (As := []) hX X I (clsX_is (cc_55_X8 ▸ ec_55)) rfl (mX8_code hX ev_56) lvX1_181_X8 hdX1_181_X8 ⟨Nat.le_trans (Nat.le_of_ble_eq_true rfl) hR.1, Nat.le_trans (Nat.le_of_ble_eq_true rfl) hR.2⟩ rfl hl.1 rfl (Nat.le_of_ble_eq_true rfl) rfl dX1_load_62 (fun H locs cells slots I => ?_)
            refine lv_isub hx hb dX1_load_65 ?_
            obtain ⟨x3_57, ex3_57, hf⟩ := ol hf
            refine nm_i ex3_57 ?_
            refine lv_istore_n (lv' := [(3, .int x3_57), (2, .ref q_20), (0, .ref x0), (1, .int x1)]) hx hb dX1_load_66 rfl hl (by decide) rfl (fun ls hl => ?_)
            refine lv_aload_n hx hb dX1_load_67 rfl (lv_at hl 2 rfl) ?_
            refine lv_iconst (v := 0) hx hb dX1_load_68 (by decide) ?_
            obtain ⟨σ_58, eσ_58, hf⟩ := ob hf
            refine g_put X I pfX1_151 rfl rfl eσ_58 dX1_load_69 (fun H locs I => ?_)
            refine lv_iload_n hx hb dX1_load_72 rfl (lv_at hl 0 rfl) ?_
            cases os hf
            exact x_ret (r_iret X I dX1_load_73)
          · have hf := im cc_55_X8 hf
            by_cases cc_55_X9 : c_55 = 7
            · have hf := ip cc_55_X9 hf
              obtain ⟨v_59, ev_59, hf⟩ := ob hf
              refine cg_A (vw := (RX9, TX9, 7)) (ci := 7) (r := some (.int v_59)) (σ' := σ_54) (rs := [.int v_59, .int (-10 : Int32)]) (rest := [.int (-10 : Int32)]) (As := []) hX X I (clsX_is (cc_55_X9 ▸ ec_55)) rfl (mX9_code hX ev_59) lvX1_181_X9 hdX1_181_X9 ⟨Nat.le_trans (Nat.le_of_ble_eq_true rfl) hR.1, Nat.le_trans (Nat.le_of_ble_eq_true rfl) hR.2⟩ rfl hl.1 rfl (Nat.le_of_ble_eq_true rfl) rfl dX1_load_62 (fun H locs cells slots I => ?_)
              refine lv_isub hx hb dX1_load_65 ?_
              obtain ⟨x3_60, ex3_60, hf⟩ := ol hf
              refine nm_i ex3_60 ?_
              refine lv_istore_n (lv' := [(3, .int x3_60), (2, .ref q_20), (0, .ref x0), (1, .int x1)]) hx hb dX1_load_66 rfl hl (by decide) rfl (fun ls hl => ?_)
              refine lv_aload_n hx hb dX1_load_67 rfl (lv_at hl 2 rfl) ?_
              refine lv_iconst (v := 0) hx hb dX1_load_68 (by decide) ?_
              obtain ⟨σ_61, eσ_61, hf⟩ := ob hf
              refine g_put X I pfX1_151 rfl rfl eσ_61 dX1_load_69 (fun H locs I => ?_)
              refine lv_iload_n hx hb dX1_load_72 rfl (lv_at hl 0 rfl) ?_
              cases os hf
              exact x_ret (r_iret X I dX1_load_73)
            · have hf := im cc_55_X9 hf
              by_cases cc_55_X10 : c_55 = 8
              · have hf := ip cc_55_X10 hf
                obtain ⟨v_62, ev_62, hf⟩ := ob hf
                refine cg_A (vw := (RX10, TX10, 7)) (ci := 8) (r := some (.int v_62)) (σ' := σ_54) (rs := [.int v_62, .int (-10 : Int32)]) (rest := [.int (-10 : Int32)]) (As := []) hX X I (clsX_is (cc_55_X10 ▸ ec_55)) rfl (mX10_code hX ev_62) lvX1_181_X10 hdX1_181_X10 ⟨Nat.le_trans (Nat.le_of_ble_eq_true rfl) hR.1, Nat.le_trans (Nat.le_of_ble_eq_true rfl) hR.2⟩ rfl hl.1 rfl (Nat.le_of_ble_eq_true rfl) rfl dX1_load_62 (fun H locs cells slots I => ?_)
                refine lv_isub hx hb dX1_load_65 ?_
                obtain ⟨x3_63, ex3_63, hf⟩ := ol hf
                refine nm_i ex3_63 ?_
                refine lv_istore_n (lv' := [(3, .int x3_63), (2, .ref q_20), (0, .ref x0), (1, .int x1)]) hx hb dX1_load_66 rfl hl (by decide) rfl (fun ls hl => ?_)
                refine lv_aload_n hx hb dX1_load_67 rfl (lv_at hl 2 rfl) ?_
                refine lv_iconst (v := 0) hx hb dX1_load_68 (by decide) ?_
                obtain ⟨σ_64, eσ_64, hf⟩ := ob hf
                refine g_put X I pfX1_151 rfl rfl eσ_64 dX1_load_69 (fun H locs I => ?_)
                refine lv_iload_n hx hb dX1_load_72 rfl (lv_at hl 0 rfl) ?_
                cases os hf
                exact x_ret (r_iret X I dX1_load_73)
              · have hf := im cc_55_X10 hf
                by_cases cc_55_X11 : c_55 = 9
                · have hf := ip cc_55_X11 hf
                  obtain ⟨v_65, ev_65, hf⟩ := ob hf
                  refine cg_A (vw := (RX11, TX11, 7)) (ci := 9) (r := some (.int v_65)) (σ' := σ_54) (rs := [.int v_65, .int (-10 : Int32)]) (rest := [.int (-10 : Int32)]) (As := []) hX X I (clsX_is (cc_55_X11 ▸ ec_55)) rfl (mX11_code hX ev_65) lvX1_181_X11 hdX1_181_X11 ⟨Nat.le_trans (Nat.le_of_ble_eq_true rfl) hR.1, Nat.le_trans (Nat.le_of_ble_eq_true rfl) hR.2⟩ rfl hl.1 rfl (Nat.le_of_ble_eq_true rfl) rfl dX1_load_62 (fun H locs cells slots I => ?_)
                  refine lv_isub hx hb dX1_load_65 ?_
                  obtain ⟨x3_66, ex3_66, hf⟩ := ol hf
                  refine nm_i ex3_66 ?_
                  refine lv_istore_n (lv' := [(3, .int x3_66), (2, .ref q_20), (0, .ref x0), (1, .int x1)]) hx hb dX1_load_66 rfl hl (by decide) rfl (fun ls hl => ?_)
                  refine lv_aload_n hx hb dX1_load_67 rfl (lv_at hl 2 rfl) ?_
                  refine lv_iconst (v := 0) hx hb dX1_load_68 (by decide) ?_
                  obtain ⟨σ_67, eσ_67, hf⟩ := ob hf
                  refine g_put X I pfX1_151 rfl rfl eσ_67 dX1_load_69 (fun H locs I => ?_)
                  refine lv_iload_n hx hb dX1_load_72 rfl (lv_at hl 0 rfl) ?_
                  cases os hf
                  exact x_ret (r_iret X I dX1_load_73)
                · have hf := im cc_55_X11 hf
                  exact nomatch hf
        · have hf := im cc_37_X9 hf
          by_cases cc_37_X10 : c_37 = 8
          · have hf := ip cc_37_X10 hf
            refine x_catch (vw := (RX10, TX10, 7)) hX X XH I (cc_37_X10 ▸ ec_37) rfl ((tableOf [(14, 42, 50, 176), (14, 42, 74, 0), (50, 67, 74, 0), (74, 76, 74, 0)]).take 0) _ _ rfl (fun z hz => nomatch hz) rfl (by decide) q1202 q3349 ?_
            refine lv_astore_n (lv' := [(2, .ref q_20), (0, .ref x0), (1, .int x1)]) hx hb dX1_load_50 rfl hl (by decide) rfl (fun ls hl => ?_)
            refine lv_aload_n hx hb dX1_load_51 rfl (lv_at hl 1 rfl) ?_
            refine lv_aload_n hx hb dX1_load_52 rfl (lv_at hl 0 rfl) ?_
            obtain ⟨v_68, ev_68, hf⟩ := ob hf
            refine g_getN hX X I gfX1_178 (gI_in ev_68) dX1_load_53 ?_
            obtain ⟨σ_69, eσ_69, hf⟩ := ob hf
            refine g_put X I pfX1_73 rfl rfl eσ_69 dX1_load_56 (fun H locs I => ?_)
            refine lv_bipush (v := (-10)) hx hb dX1_load_59 (by decide) ?_
            refine lv_aload_n hx hb dX1_load_61 rfl (lv_at hl 0 rfl) ?_
            obtain ⟨c_70, ec_70, hf⟩ := ob hf
            by_cases cc_70_X8 : c_70 = 6
            · have hf := ip cc_70_X8 hf
              obtain ⟨v_71, ev_71, hf⟩ := ob hf
              refine cg_A (vw := (RX8, TX8, 7)) (ci := 6) (r := some (.int v_71)) (σ' := σ_69) (rs := [.int v_71, .int (-10 : Int32)]) (rest := [.int (-10 : Int32)]) (As := []) hX X I (clsX_is (cc_70_X8 ▸ ec_70)) rfl (mX8_code hX ev_71) lvX1_181_X8 hdX1_181_X8 ⟨Nat.le_trans (Nat.le_of_ble_eq_true rfl) hR.1, Nat.le_trans (Nat.le_of_ble_eq_true rfl) hR.2⟩ rfl hl.1 rfl (Nat.le_of_ble_eq_true rfl) rfl dX1_load_62 (fun H locs cells slots I => ?_)
              refine lv_isub hx hb dX1_load_65 ?_
              obtain ⟨x3_72, ex3_72, hf⟩ := ol hf
              refine nm_i ex3_72 ?_
              refine lv_istore_n (lv' := [(3, .int x3_72), (2, .ref q_20), (0, .ref x0), (1, .int x1)]) hx hb dX1_load_66 rfl hl (by decide) rfl (fun ls hl => ?_)
              refine lv_aload_n hx hb dX1_load_67 rfl (lv_at hl 2 rfl) ?_
              refine lv_iconst (v := 0) hx hb dX1_load_68 (by decide) ?_
              obtain ⟨σ_73, eσ_73, hf⟩ := ob hf
              refine g_put X I pfX1_151 rfl rfl eσ_73 dX1_load_69 (fun H locs I => ?_)
              refine lv_iload_n hx hb dX1_load_72 rfl (lv_at hl 0 rfl) ?_
              cases os hf
              exact x_ret (r_iret X I dX1_load_73)
            · have hf := im cc_70_X8 hf
              by_cases cc_70_X9 : c_70 = 7
              · have hf := ip cc_70_X9 hf
                obtain ⟨v_74, ev_74, hf⟩ := ob hf
                refine cg_A (vw := (RX9, TX9, 7)) (ci := 7) (r := some (.int v_74)) (σ' := σ_69) (rs := [.int v_74, .int (-10 : Int32)]) (rest := [.int (-10 : Int32)]) (As := []) hX X I (clsX_is (cc_70_X9 ▸ ec_70)) rfl (mX9_code hX ev_74) lvX1_181_X9 hdX1_181_X9 ⟨Nat.le_trans (Nat.le_of_ble_eq_true rfl) hR.1, Nat.le_trans (Nat.le_of_ble_eq_true rfl) hR.2⟩ rfl hl.1 rfl (Nat.le_of_ble_eq_true rfl) rfl dX1_load_62 (fun H locs cells slots I => ?_)
                refine lv_isub hx hb dX1_load_65 ?_
                obtain ⟨x3_75, ex3_75, hf⟩ := ol hf
                refine nm_i ex3_75 ?_
                refine lv_istore_n (lv' := [(3, .int x3_75), (2, .ref q_20), (0, .ref x0), (1, .int x1)]) hx hb dX1_load_66 rfl hl (by decide) rfl (fun ls hl => ?_)
                refine lv_aload_n hx hb dX1_load_67 rfl (lv_at hl 2 rfl) ?_
                refine lv_iconst (v := 0) hx hb dX1_load_68 (by decide) ?_
                obtain ⟨σ_76, eσ_76, hf⟩ := ob hf
                refine g_put X I pfX1_151 rfl rfl eσ_76 dX1_load_69 (fun H locs I => ?_)
                refine lv_iload_n hx hb dX1_load_72 rfl (lv_at hl 0 rfl) ?_
                cases os hf
                exact x_ret (r_iret X I dX1_load_73)
              · have hf := im cc_70_X9 hf
                by_cases cc_70_X10 : c_70 = 8
                · have hf := ip cc_70_X10 hf
                  obtain ⟨v_77, ev_77, hf⟩ := ob hf
                  refine cg_A (vw := (RX10, TX10, 7)) (ci := 8) (r := some (.int v_77)) (σ' := σ_69) (rs := [.int v_77, .int (-10 : Int32)]) (rest := [.int (-10 : Int32)]) (As := []) hX X I (clsX_is (cc_70_X10 ▸ ec_70)) rfl (mX10_code hX ev_77) lvX1_181_X10 hdX1_181_X10 ⟨Nat.le_trans (Nat.le_of_ble_eq_true rfl) hR.1, Nat.le_trans (Nat.le_of_ble_eq_true rfl) hR.2⟩ rfl hl.1 rfl (Nat.le_of_ble_eq_true rfl) rfl dX1_load_62 (fun H locs cells slots I => ?_)
                  refine lv_isub hx hb dX1_load_65 ?_
                  obtain ⟨x3_78, ex3_78, hf⟩ := ol hf
                  refine nm_i ex3_78 ?_
                  refine lv_istore_n (lv' := [(3, .int x3_78), (2, .ref q_20), (0, .ref x0), (1, .int x1)]) hx hb dX1_load_66 rfl hl (by decide) rfl (fun ls hl => ?_)
                  refine lv_aload_n hx hb dX1_load_67 rfl (lv_at hl 2 rfl) ?_
                  refine lv_iconst (v := 0) hx hb dX1_load_68 (by decide) ?_
                  obtain ⟨σ_79, eσ_79, hf⟩ := ob hf
                  refine g_put X I pfX1_151 rfl rfl eσ_79 dX1_load_69 (fun H locs I => ?_)
                  refine lv_iload_n hx hb dX1_load_72 rfl (lv_at hl 0 rfl) ?_
                  cases os hf
                  exact x_ret (r_iret X I dX1_load_73)
                · have hf := im cc_70_X10 hf
                  by_cases cc_70_X11 : c_70 = 9
                  · have hf := ip cc_70_X11 hf
                    obtain ⟨v_80, ev_80, hf⟩ := ob hf
                    refine cg_A (vw := (RX11, TX11, 7)) (ci := 9) (r := some (.int v_80)) (σ' := σ_69) (rs := [.int v_80, .int (-10 : Int32)]) (rest := [.int (-10 : Int32)]) (As := []) hX X I (clsX_is (cc_70_X11 ▸ ec_70)) rfl (mX11_code hX ev_80) lvX1_181_X11 hdX1_181_X11 ⟨Nat.le_trans (Nat.le_of_ble_eq_true rfl) hR.1, Nat.le_trans (Nat.le_of_ble_eq_true rfl) hR.2⟩ rfl hl.1 rfl (Nat.le_of_ble_eq_true rfl) rfl dX1_load_62 (fun H locs cells slots I => ?_)
                    refine lv_isub hx hb dX1_load_65 ?_
                    obtain ⟨x3_81, ex3_81, hf⟩ := ol hf
                    refine nm_i ex3_81 ?_
                    refine lv_istore_n (lv' := [(3, .int x3_81), (2, .ref q_20), (0, .ref x0), (1, .int x1)]) hx hb dX1_load_66 rfl hl (by decide) rfl (fun ls hl => ?_)
                    refine lv_aload_n hx hb dX1_load_67 rfl (lv_at hl 2 rfl) ?_
                    refine lv_iconst (v := 0) hx hb dX1_load_68 (by decide) ?_
                    obtain ⟨σ_82, eσ_82, hf⟩ := ob hf
                    refine g_put X I pfX1_151 rfl rfl eσ_82 dX1_load_69 (fun H locs I => ?_)
                    refine lv_iload_n hx hb dX1_load_72 rfl (lv_at hl 0 rfl) ?_
                    cases os hf
                    exact x_ret (r_iret X I dX1_load_73)
                  · have hf := im cc_70_X11 hf
                    exact nomatch hf
          · have hf := im cc_37_X10 hf
            by_cases cc_37_X11 : c_37 = 9
            · have hf := ip cc_37_X11 hf
              refine x_catch (vw := (RX11, TX11, 7)) hX X XH I (cc_37_X11 ▸ ec_37) rfl ((tableOf [(14, 42, 50, 176), (14, 42, 74, 0), (50, 67, 74, 0), (74, 76, 74, 0)]).take 0) _ _ rfl (fun z hz => nomatch hz) rfl (by decide) q1202 q3348 ?_
              refine lv_astore_n (lv' := [(2, .ref q_20), (0, .ref x0), (1, .int x1)]) hx hb dX1_load_50 rfl hl (by decide) rfl (fun ls hl => ?_)
              refine lv_aload_n hx hb dX1_load_51 rfl (lv_at hl 1 rfl) ?_
              refine lv_aload_n hx hb dX1_load_52 rfl (lv_at hl 0 rfl) ?_
              obtain ⟨v_83, ev_83, hf⟩ := ob hf
              refine g_getN hX X I gfX1_178 (gI_in ev_83) dX1_load_53 ?_
              obtain ⟨σ_84, eσ_84, hf⟩ := ob hf
              refine g_put X I pfX1_73 rfl rfl eσ_84 dX1_load_56 (fun H locs I => ?_)
              refine lv_bipush (v := (-10)) hx hb dX1_load_59 (by decide) ?_
              refine lv_aload_n hx hb dX1_load_61 rfl (lv_at hl 0 rfl) ?_
              obtain ⟨c_85, ec_85, hf⟩ := ob hf
              by_cases cc_85_X8 : c_85 = 6
              · have hf := ip cc_85_X8 hf
                obtain ⟨v_86, ev_86, hf⟩ := ob hf
                refine cg_A (vw := (RX8, TX8, 7)) (ci := 6) (r := some (.int v_86)) (σ' := σ_84) (rs := [.int v_86, .int (-10 : Int32)]) (rest := [.int (-10 : Int32)]) (As := []) hX X I (clsX_is (cc_85_X8 ▸ ec_85)) rfl (mX8_code hX ev_86) lvX1_181_X8 hdX1_181_X8 ⟨Nat.le_trans (Nat.le_of_ble_eq_true rfl) hR.1, Nat.le_trans (Nat.le_of_ble_eq_true rfl) hR.2⟩ rfl hl.1 rfl (Nat.le_of_ble_eq_true rfl) rfl dX1_load_62 (fun H locs cells slots I => ?_)
                refine lv_isub hx hb dX1_load_65 ?_
                obtain ⟨x3_87, ex3_87, hf⟩ := ol hf
                refine nm_i ex3_87 ?_
                refine lv_istore_n (lv' := [(3, .int x3_87), (2, .ref q_20), (0, .ref x0), (1, .int x1)]) hx hb dX1_load_66 rfl hl (by decide) rfl (fun ls hl => ?_)
                refine lv_aload_n hx hb dX1_load_67 rfl (lv_at hl 2 rfl) ?_
                refine lv_iconst (v := 0) hx hb dX1_load_68 (by decide) ?_
                obtain ⟨σ_88, eσ_88, hf⟩ := ob hf
                refine g_put X I pfX1_151 rfl rfl eσ_88 dX1_load_69 (fun H locs I => ?_)
                refine lv_iload_n hx hb dX1_load_72 rfl (lv_at hl 0 rfl) ?_
                cases os hf
                exact x_ret (r_iret X I dX1_load_73)
              · have hf := im cc_85_X8 hf
                by_cases cc_85_X9 : c_85 = 7
                · have hf := ip cc_85_X9 hf
                  obtain ⟨v_89, ev_89, hf⟩ := ob hf
                  refine cg_A (vw := (RX9, TX9, 7)) (ci := 7) (r := some (.int v_89)) (σ' := σ_84) (rs := [.int v_89, .int (-10 : Int32)]) (rest := [.int (-10 : Int32)]) (As := []) hX X I (clsX_is (cc_85_X9 ▸ ec_85)) rfl (mX9_code hX ev_89) lvX1_181_X9 hdX1_181_X9 ⟨Nat.le_trans (Nat.le_of_ble_eq_true rfl) hR.1, Nat.le_trans (Nat.le_of_ble_eq_true rfl) hR.2⟩ rfl hl.1 rfl (Nat.le_of_ble_eq_true rfl) rfl dX1_load_62 (fun H locs cells slots I => ?_)
                  refine lv_isub hx hb dX1_load_65 ?_
                  obtain ⟨x3_90, ex3_90, hf⟩ := ol hf
                  refine nm_i ex3_90 ?_
                  refine lv_istore_n (lv' := [(3, .int x3_90), (2, .ref q_20), (0, .ref x0), (1, .int x1)]) hx hb dX1_load_66 rfl hl (by decide) rfl (fun ls hl => ?_)
                  refine lv_aload_n hx hb dX1_load_67 rfl (lv_at hl 2 rfl) ?_
                  refine lv_iconst (v := 0) hx hb dX1_load_68 (by decide) ?_
                  obtain ⟨σ_91, eσ_91, hf⟩ := ob hf
                  refine g_put X I pfX1_151 rfl rfl eσ_91 dX1_load_69 (fun H locs I => ?_)
                  refine lv_iload_n hx hb dX1_load_72 rfl (lv_at hl 0 rfl) ?_
                  cases os hf
                  exact x_ret (r_iret X I dX1_load_73)
                · have hf := im cc_85_X9 hf
                  by_cases cc_85_X10 : c_85 = 8
                  · have hf := ip cc_85_X10 hf
                    obtain ⟨v_92, ev_92, hf⟩ := ob hf
                    refine cg_A (vw := (RX10, TX10, 7)) (ci := 8) (r := some (.int v_92)) (σ' := σ_84) (rs := [.int v_92, .int (-10 : Int32)]) (rest := [.int (-10 : Int32)]) (As := []) hX X I (clsX_is (cc_85_X10 ▸ ec_85)) rfl (mX10_code hX ev_92) lvX1_181_X10 hdX1_181_X10 ⟨Nat.le_trans (Nat.le_of_ble_eq_true rfl) hR.1, Nat.le_trans (Nat.le_of_ble_eq_true rfl) hR.2⟩ rfl hl.1 rfl (Nat.le_of_ble_eq_true rfl) rfl dX1_load_62 (fun H locs cells slots I => ?_)
                    refine lv_isub hx hb dX1_load_65 ?_
                    obtain ⟨x3_93, ex3_93, hf⟩ := ol hf
                    refine nm_i ex3_93 ?_
                    refine lv_istore_n (lv' := [(3, .int x3_93), (2, .ref q_20), (0, .ref x0), (1, .int x1)]) hx hb dX1_load_66 rfl hl (by decide) rfl (fun ls hl => ?_)
                    refine lv_aload_n hx hb dX1_load_67 rfl (lv_at hl 2 rfl) ?_
                    refine lv_iconst (v := 0) hx hb dX1_load_68 (by decide) ?_
                    obtain ⟨σ_94, eσ_94, hf⟩ := ob hf
                    refine g_put X I pfX1_151 rfl rfl eσ_94 dX1_load_69 (fun H locs I => ?_)
                    refine lv_iload_n hx hb dX1_load_72 rfl (lv_at hl 0 rfl) ?_
                    cases os hf
                    exact x_ret (r_iret X I dX1_load_73)
                  · have hf := im cc_85_X10 hf
                    by_cases cc_85_X11 : c_85 = 9
                    · have hf := ip cc_85_X11 hf
                      obtain ⟨v_95, ev_95, hf⟩ := ob hf
                      refine cg_A (vw := (RX11, TX11, 7)) (ci := 9) (r := some (.int v_95)) (σ' := σ_84) (rs := [.int v_95, .int (-10 : Int32)]) (rest := [.int (-10 : Int32)]) (As := []) hX X I (clsX_is (cc_85_X11 ▸ ec_85)) rfl (mX11_code hX ev_95) lvX1_181_X11 hdX1_181_X11 ⟨Nat.le_trans (Nat.le_of_ble_eq_true rfl) hR.1, Nat.le_trans (Nat.le_of_ble_eq_true rfl) hR.2⟩ rfl hl.1 rfl (Nat.le_of_ble_eq_true rfl) rfl dX1_load_62 (fun H locs cells slots I => ?_)
                      refine lv_isub hx hb dX1_load_65 ?_
                      obtain ⟨x3_96, ex3_96, hf⟩ := ol hf
                      refine nm_i ex3_96 ?_
                      refine lv_istore_n (lv' := [(3, .int x3_96), (2, .ref q_20), (0, .ref x0), (1, .int x1)]) hx hb dX1_load_66 rfl hl (by decide) rfl (fun ls hl => ?_)
                      refine lv_aload_n hx hb dX1_load_67 rfl (lv_at hl 2 rfl) ?_
                      refine lv_iconst (v := 0) hx hb dX1_load_68 (by decide) ?_
                      obtain ⟨σ_97, eσ_97, hf⟩ := ob hf
                      refine g_put X I pfX1_151 rfl rfl eσ_97 dX1_load_69 (fun H locs I => ?_)
                      refine lv_iload_n hx hb dX1_load_72 rfl (lv_at hl 0 rfl) ?_
                      cases os hf
                      exact x_ret (r_iret X I dX1_load_73)
                    · have hf := im cc_85_X11 hf
                      exact nomatch hf
            · have hf := im cc_37_X11 hf
              exact nomatch hf
  · have hf := se_r hgv_4
    obtain ⟨uq_7, eq_7, hf⟩ := ob hf
    cases os hf
    refine cx_thr I (xr_S (σ' := σ_5) (rest := []) (As := [.int v_2]) X I (mX1_require hX hS ev_4) lvX1_158 hdX1_158 ⟨Nat.le_trans (Nat.le_of_ble_eq_true rfl) hR.1, Nat.le_trans (Nat.le_of_ble_eq_true rfl) hR.2⟩ rfl hl.1 rfl (Nat.le_of_ble_eq_true rfl) dX1_load_11) (fun H locs cells slots I => ?_)
    exact x_out X XH rfl I eq_7
theorem mX1_load {E : EV} {l : Launch} {N : Nat} {σ : St} {x0 : Nat} {x1 : Int32} {res : ((Int32 ⊕ Nat) × St)} (hX : XK E) (hS : l.stackTraces = false) (hf : fX1_load N E.2.2.2.1 σ x0 x1 = some res) : CX E l yX1_load (wsW_ yX1_load cX1_load 5 (some .int) [(14, 42, 50, 176), (14, 42, 74, 0), (50, 67, 74, 0), (74, 76, 74, 0)]) 15 335 [.ref x0, .int x1] σ (sv (fun v => (some (.int v))) res.1) (sx res.1) res.2 := by
  refine CX.ofH hX.1 (by decide) rfl rfl (Nat.le_of_ble_eq_true rfl) ?_
  intro p e s m below meth c X XH I ls hl
  exact wX1_load_0 hX ⟨Nat.le_refl _, Nat.le_refl _⟩ X XH hS N _ _ _ _ _ _ _ _ I hl hf
/-! SharedTaxisLaw.load(LSharedTaxis;I[J)I imp=True fuel=True kap=True rt=I thr=False -/
theorem lvX0_7 : GoodIn lw_all (wsV RX0 7 RX1 yX1_load (wsW_ yX1_load cX1_load 5 (some .int) [(14, 42, 50, 176), (14, 42, 74, 0), (50, 67, 74, 0), (74, 76, 74, 0)])) := lw_VW q1198 q1199 q1200 q113 q1201
theorem hdX0_7 : yX1_load.cls = RX1 ∧ yX1_load.cls ≠ "java/lang/invoke/MethodHandle" ∧ yX1_load.cls ≠ "java/lang/invoke/VarHandle" ∧ (parseMethodDescriptor yX1_load.desc).map (fun d => d.parameters.length) = some 1 := by decide +kernel
def fX0_load (N : Nat) (κ : Nat → Nat) (σ : St) (x0 : Nat) (x1 : Int32) (x2 : Nat) : Option (Int32 × St) := (isC σ x0 0).bind fun u_1 : Unit => (fX1_load N κ σ x0 x1).bind fun (v_2, σ_3) => se v_2 (fun v_4 => (sJ σ_3 x2 (0 : Int32) (v_4.toInt64)).bind fun σ_6 : St => some ((0 : Int32), σ_6)) (fun q_5 => (clsX σ_3 q_5).bind fun c_7 : Nat => if c_7 = 35 then some ((1 : Int32), σ_3) else none)
theorem wX0_load_0 {E : EV} {l : Launch} {p : Program} {e : Env} {s : State} {m : MethodId} {args : Array Value} {below : List Frame} {meth : Method} {c : Code} {R : Room} {res : (Int32 × St)} (hX : XK E) (hR : 16 ≤ R.frames ∧ 359 ≤ R.locals) (X : MX E p s m args meth c cX0_load 4 (some .int) RX0 "load") (XH : MH c [(0, 9, 12, 13)]) (hS : l.stackTraces = false) (N : Nat) : ∀ (x0 : Nat) (x1 : Int32) (x2 : Nat) (σ : St) (H : Heap) (locs : List Loc) (cells slots : Nat) (ls : Array Slot), WI E R s σ H locs cells slots → lv_has ls 4 [(0, .ref x0), (1, .int x1), (2, .ref x2)] → fX0_load N E.2.2.2.1 σ x0 x1 x2 = some res → W p l e R s m args below meth c H locs cells slots (vx_MQ below (QS E R.cells R.slots (some (some (.int res.1))) res.2) (XS E R.cells R.slots none res.2) args s R.cells R.slots (fr E)) (F0 m 0 ls []) := by
  intro x0 x1 x2 σ H locs cells slots ls I hl hf
  obtain ⟨⟨hx, hb, hml, hown, hts⟩, -⟩ := id X
  unfold fX0_load at hf
  refine lv_aload_n hx hb dX0_load_0 rfl (lv_at hl 2 rfl) ?_
  refine lv_iconst (v := 0) hx hb dX0_load_1 (by decide) ?_
  refine lv_aload_n hx hb dX0_load_2 rfl (lv_at hl 0 rfl) ?_
  refine lv_iload_n hx hb dX0_load_3 rfl (lv_at hl 1 rfl) ?_
  obtain ⟨u_1, eu_1, hf⟩ := ob hf
  obtain ⟨⟨v_2, σ_3⟩, ev_2, hf⟩ := ob hf
  have hgv_2 := hf
  rcases v_2 with v_4 | q_5
  · have hf := se_l hgv_2
    refine cx_ret (r := (some (.int v_4))) (rs := [.int v_4, .int (0 : Int32), .ref x2]) I (xr_VW (vw := (RX1, TX1, 7)) (ci := 0) (σ' := σ_3) (rest := [.int (0 : Int32), .ref x2]) (As := [.int x1]) X I eu_1 rfl (mX1_load hX hS ev_2) lvX0_7 hdX0_7 ⟨Nat.le_trans (Nat.le_of_ble_eq_true rfl) hR.1, Nat.le_trans (Nat.le_of_ble_eq_true rfl) hR.2⟩ rfl hl.1 rfl (Nat.le_of_ble_eq_true rfl) dX0_load_4) rfl (fun H locs cells slots I => ?_)
    refine lv_i2l hx hb dX0_load_7 rfl ?_
    obtain ⟨σ_6, eσ_6, hf⟩ := ob hf
    refine g_last X I eσ_6 dX0_load_8 (fun H locs I => ?_)
    refine lv_goto (tgt := 15) hx hb dX0_load_9 (by decide) ?_
    refine lv_iconst (v := 0) hx hb dX0_load_15 (by decide) ?_
    cases os hf
    exact x_ret (r_iret X I dX0_load_16)
  · have hf := se_r hgv_2
    obtain ⟨c_7, ec_7, hf⟩ := ob hf
    refine cx_thr I (xr_VW (vw := (RX1, TX1, 7)) (ci := 0) (σ' := σ_3) (rest := [.int (0 : Int32), .ref x2]) (As := [.int x1]) X I eu_1 rfl (mX1_load hX hS ev_2) lvX0_7 hdX0_7 ⟨Nat.le_trans (Nat.le_of_ble_eq_true rfl) hR.1, Nat.le_trans (Nat.le_of_ble_eq_true rfl) hR.2⟩ rfl hl.1 rfl (Nat.le_of_ble_eq_true rfl) dX0_load_4) (fun H locs cells slots I => ?_)
    by_cases cc_7_E7 : c_7 = 35
    · have hf := ip cc_7_E7 hf
      refine x_catch (vw := (RJ7, TJ7, 0)) hX X XH I (cc_7_E7 ▸ ec_7) rfl ((tableOf [(0, 9, 12, 13)]).take 0) _ _ rfl (fun z hz => nomatch hz) rfl (by decide) q1197 q723 ?_
      refine lv_astore_n (lv' := [(3, .ref q_5), (0, .ref x0), (1, .int x1), (2, .ref x2)]) hx hb dX0_load_12 rfl hl (by decide) rfl (fun ls hl => ?_)
      refine lv_iconst (v := 1) hx hb dX0_load_13 (by decide) ?_
      cases os hf
      exact x_ret (r_iret X I dX0_load_14)
    · have hf := im cc_7_E7 hf
      exact nomatch hf
theorem mX0_load {E : EV} {l : Launch} {N : Nat} {σ : St} {x0 : Nat} {x1 : Int32} {x2 : Nat} {res : (Int32 × St)} (hX : XK E) (hS : l.stackTraces = false) (hf : fX0_load N E.2.2.2.1 σ x0 x1 x2 = some res) : CX E l yX0_load (wsW_ yX0_load cX0_load 4 (some .int) [(0, 9, 12, 13)]) 16 359 [.ref x0, .int x1, .ref x2] σ (some (some (.int res.1))) none res.2 := by
  refine CX.ofH hX.1 (by decide) rfl rfl (Nat.le_of_ble_eq_true rfl) ?_
  intro p e s m below meth c X XH I ls hl
  exact wX0_load_0 hX ⟨Nat.le_refl _, Nat.le_refl _⟩ X XH hS N _ _ _ _ _ _ _ _ _ I hl hf
/-! java/util/Objects.checkIndex(II)I imp=False fuel=False kap=False rt=I thr=False -/
theorem lvJ20_105 : GoodIn lw_all (va_wsS RJ20 105 yJ16_checkIndex (ws_ yJ16_checkIndex cJ16_checkIndex 3 (some .int))) := lw_S q497 q498 q136 q499
theorem hdJ20_105 : yJ16_checkIndex.cls ≠ "java/lang/invoke/MethodHandle" ∧ yJ16_checkIndex.cls ≠ "java/lang/invoke/VarHandle" ∧ (parseMethodDescriptor yJ16_checkIndex.desc).map (fun d => d.parameters.length) = some 3 := by decide +kernel
def fJ20_checkIndex (σ : St) (x0 : Int32) (x1 : Int32) : Option Int32 := (fJ16_checkIndex σ x0 x1 none).bind fun v_1 : Int32 => some v_1
theorem wJ20_checkIndex_0 {E : EV} {l : Launch} {p : Program} {e : Env} {s : State} {m : MethodId} {args : Array Value} {below : List Frame} {meth : Method} {c : Code} {R : Room} {σ : St} {res : Int32} (hX : XK E) (hR : 1 ≤ R.frames ∧ 22 ≤ R.locals) (X : MX E p s m args meth c cJ20_checkIndex 2 (some .int) RJ20 "checkIndex") : ∀ (x0 : Int32) (x1 : Int32) (H : Heap) (locs : List Loc) (cells slots : Nat) (ls : Array Slot), WI E R s σ H locs cells slots → lv_has ls 2 [(0, .int x0), (1, .int x1)] → fJ20_checkIndex σ x0 x1 = some res → W p l e R s m args below meth c H locs cells slots (MQ below (Qd E R.cells R.slots (some (.int res)) σ) args s R.cells R.slots (fr E)) (F0 m 0 ls []) := by
  intro x0 x1 H locs cells slots ls I hl hf
  obtain ⟨⟨hx, hb, hml, hown, hts⟩, -⟩ := id X
  unfold fJ20_checkIndex at hf
  refine lv_iload_n hx hb dJ20_checkIndex_0 rfl (lv_at hl 0 rfl) ?_
  refine lv_iload_n hx hb dJ20_checkIndex_1 rfl (lv_at hl 1 rfl) ?_
  refine lv_null hx hb dJ20_checkIndex_2 ?_
  obtain ⟨v_1, ev_1, hf⟩ := ob hf
  refine cg_S (r := (some (.int v_1))) (σ' := σ) (rs := [.int v_1]) (rest := []) (As := [.int x0, .int x1, va_rf none]) X I (mJ16_checkIndex hX ev_1) lvJ20_105 hdJ20_105 ⟨Nat.le_trans (Nat.le_of_ble_eq_true rfl) hR.1, Nat.le_trans (Nat.le_of_ble_eq_true rfl) hR.2⟩ rfl hl.1 rfl (Nat.le_of_ble_eq_true rfl) rfl dJ20_checkIndex_3 (fun H locs cells slots I => ?_)
  cases os hf
  exact r_iret X I dJ20_checkIndex_6
theorem mJ20_checkIndex {E : EV} {l : Launch} {σ : St} {x0 : Int32} {x1 : Int32} {res : Int32} (hX : XK E) (hf : fJ20_checkIndex σ x0 x1 = some res) : CM E l yJ20_checkIndex (ws_ yJ20_checkIndex cJ20_checkIndex 2 (some .int)) 1 22 [.int x0, .int x1] σ (some (.int res)) σ := by
  refine CM.of hX.1 (by decide) rfl rfl (Nat.le_of_ble_eq_true rfl) ?_
  intro p e s m below meth c X I ls hl
  exact wJ20_checkIndex_0 hX ⟨Nat.le_refl _, Nat.le_refl _⟩ X _ _ _ _ _ _ _ I hl hf
/-! java/util/ArrayList.elementData(I)Ljava/lang/Object; imp=False fuel=False kap=False rt=O thr=False -/
def fJ2_elementData (σ : St) (x0 : Nat) (x1 : Int32) : Option (Option Nat) := (gR σ x0 [(21, 1)]).bind fun v_1 : Option Nat => (v_1).bind fun a_2 : Nat => (aR σ a_2 3 x1).bind fun v_3 : Option Nat => some (v_3)
theorem wJ2_elementData_0 {E : EV} {l : Launch} {p : Program} {e : Env} {s : State} {m : MethodId} {args : Array Value} {below : List Frame} {meth : Method} {c : Code} {R : Room} {σ : St} {res : (Option Nat)} (hX : XK E) (hR : 0 ≤ R.frames ∧ 0 ≤ R.locals) (X : MX E p s m args meth c cJ2_elementData 2 (some (.object "java/lang/Object")) RJ2 "elementData") : ∀ (x0 : Nat) (x1 : Int32) (H : Heap) (locs : List Loc) (cells slots : Nat) (ls : Array Slot), WI E R s σ H locs cells slots → lv_has ls 2 [(0, .ref x0), (1, .int x1)] → fJ2_elementData σ x0 x1 = some res → W p l e R s m args below meth c H locs cells slots (MQ below (Qd E R.cells R.slots (some (va_rf res)) σ) args s R.cells R.slots (fr E)) (F0 m 0 ls []) := by
  intro x0 x1 H locs cells slots ls I hl hf
  obtain ⟨⟨hx, hb, hml, hown, hts⟩, -⟩ := id X
  unfold fJ2_elementData at hf
  refine lv_aload_n hx hb dJ2_elementData_0 rfl (lv_at hl 0 rfl) ?_
  obtain ⟨v_1, ev_1, hf⟩ := ob hf
  refine g_get X I gfJ2_9 (gR_in ev_1) dJ2_elementData_1 ?_
  refine lv_iload_n hx hb dJ2_elementData_4 rfl (lv_at hl 1 rfl) ?_
  obtain ⟨a_2, ea_2, hga_2⟩ := ob hf
  have hla_2 := hl
  have Ia_2 := I
  subst ea_2
  have hf := hga_2
  have hl := hla_2
  have I := Ia_2
  obtain ⟨v_3, ev_3, hf⟩ := ob hf
  refine g_aald X I (by decide) rfl ev_3 dJ2_elementData_5 ?_
  cases os hf
  exact r_aret X I (Or.inl ⟨_, rfl⟩) (rf_or _) dJ2_elementData_6
theorem mJ2_elementData {E : EV} {l : Launch} {σ : St} {x0 : Nat} {x1 : Int32} {res : (Option Nat)} (hX : XK E) (hf : fJ2_elementData σ x0 x1 = some res) : CM E l yJ2_elementData (ws_ yJ2_elementData cJ2_elementData 2 (some (.object "java/lang/Object"))) 0 0 [.ref x0, .int x1] σ (some (va_rf res)) σ := by
  refine CM.of hX.1 (by decide) rfl rfl (Nat.le_of_ble_eq_true rfl) ?_
  intro p e s m below meth c X I ls hl
  exact wJ2_elementData_0 hX ⟨Nat.le_refl _, Nat.le_refl _⟩ X _ _ _ _ _ _ _ I hl hf
/-! java/util/ArrayList.get(I)Ljava/lang/Object; imp=False fuel=False kap=False rt=O thr=False -/
theorem lvJ2_118 : GoodIn lw_all (va_wsS RJ2 118 yJ20_checkIndex (ws_ yJ20_checkIndex cJ20_checkIndex 2 (some .int))) := lw_S q494 q495 q146 q496
theorem hdJ2_118 : yJ20_checkIndex.cls ≠ "java/lang/invoke/MethodHandle" ∧ yJ20_checkIndex.cls ≠ "java/lang/invoke/VarHandle" ∧ (parseMethodDescriptor yJ20_checkIndex.desc).map (fun d => d.parameters.length) = some 2 := by decide +kernel
theorem lvJ2_123 : GoodIn lw_all (wsV RJ2 123 RJ2 yJ2_elementData (ws_ yJ2_elementData cJ2_elementData 2 (some (.object "java/lang/Object")))) := lw_V q500 q501 q502 q118 q503
theorem hdJ2_123 : yJ2_elementData.cls = RJ2 ∧ yJ2_elementData.cls ≠ "java/lang/invoke/MethodHandle" ∧ yJ2_elementData.cls ≠ "java/lang/invoke/VarHandle" ∧ (parseMethodDescriptor yJ2_elementData.desc).map (fun d => d.parameters.length) = some 1 := by decide +kernel
def fJ2_get (σ : St) (x0 : Nat) (x1 : Int32) : Option (Option Nat) := (gI σ x0 [(21, 2)]).bind fun v_1 : Int32 => (fJ20_checkIndex σ x1 v_1).bind fun v_2 : Int32 => (isC σ x0 21).bind fun u_4 : Unit => (fJ2_elementData σ x0 x1).bind fun v_5 : Option Nat => some (v_5)
theorem wJ2_get_0 {E : EV} {l : Launch} {p : Program} {e : Env} {s : State} {m : MethodId} {args : Array Value} {below : List Frame} {meth : Method} {c : Code} {R : Room} {σ : St} {res : (Option Nat)} (hX : XK E) (hR : 2 ≤ R.frames ∧ 43 ≤ R.locals) (X : MX E p s m args meth c cJ2_get 2 (some (.object "java/lang/Object")) RJ2 "get") : ∀ (x0 : Nat) (x1 : Int32) (H : Heap) (locs : List Loc) (cells slots : Nat) (ls : Array Slot), WI E R s σ H locs cells slots → lv_has ls 2 [(0, .ref x0), (1, .int x1)] → fJ2_get σ x0 x1 = some res → W p l e R s m args below meth c H locs cells slots (MQ below (Qd E R.cells R.slots (some (va_rf res)) σ) args s R.cells R.slots (fr E)) (F0 m 0 ls []) := by
  intro x0 x1 H locs cells slots ls I hl hf
  obtain ⟨⟨hx, hb, hml, hown, hts⟩, -⟩ := id X
  unfold fJ2_get at hf
  refine lv_iload_n hx hb dJ2_get_0 rfl (lv_at hl 1 rfl) ?_
  refine lv_aload_n hx hb dJ2_get_1 rfl (lv_at hl 0 rfl) ?_
  obtain ⟨v_1, ev_1, hf⟩ := ob hf
  refine g_get X I gfJ2_48 (gI_in ev_1) dJ2_get_2 ?_
  obtain ⟨v_2, ev_2, hf⟩ := ob hf
  refine cg_S (r := (some (.int v_2))) (σ' := σ) (rs := [.int v_2]) (rest := []) (As := [.int x1, .int v_1]) X I (mJ20_checkIndex hX ev_2) lvJ2_118 hdJ2_118 ⟨Nat.le_trans (Nat.le_of_ble_eq_true rfl) hR.1, Nat.le_trans (Nat.le_of_ble_eq_true rfl) hR.2⟩ rfl hl.1 rfl (Nat.le_of_ble_eq_true rfl) rfl dJ2_get_5 (fun H locs cells slots I => ?_)
  refine lv_pop hx hb dJ2_get_8 rfl ?_
  refine lv_aload_n hx hb dJ2_get_9 rfl (lv_at hl 0 rfl) ?_
  refine lv_iload_n hx hb dJ2_get_10 rfl (lv_at hl 1 rfl) ?_
  obtain ⟨u_4, eu_4, hf⟩ := ob hf
  obtain ⟨v_5, ev_5, hf⟩ := ob hf
  refine cg_V (vw := (RJ2, TJ2, 3)) (ci := 21) (r := (some (va_rf v_5))) (σ' := σ) (rs := [va_rf v_5]) (rest := []) (As := [.int x1]) X I eu_4 rfl (mJ2_elementData hX ev_5) lvJ2_123 hdJ2_123 ⟨Nat.le_trans (Nat.le_of_ble_eq_true rfl) hR.1, Nat.le_trans (Nat.le_of_ble_eq_true rfl) hR.2⟩ rfl hl.1 rfl (Nat.le_of_ble_eq_true rfl) rfl dJ2_get_11 (fun H locs cells slots I => ?_)
  cases os hf
  exact r_aret X I (Or.inl ⟨_, rfl⟩) (rf_or _) dJ2_get_14
theorem mJ2_get {E : EV} {l : Launch} {σ : St} {x0 : Nat} {x1 : Int32} {res : (Option Nat)} (hX : XK E) (hf : fJ2_get σ x0 x1 = some res) : CM E l yJ2_get (ws_ yJ2_get cJ2_get 2 (some (.object "java/lang/Object"))) 2 43 [.ref x0, .int x1] σ (some (va_rf res)) σ := by
  refine CM.of hX.1 (by decide) rfl rfl (Nat.le_of_ble_eq_true rfl) ?_
  intro p e s m below meth c X I ls hl
  exact wJ2_get_0 hX ⟨Nat.le_refl _, Nat.le_refl _⟩ X _ _ _ _ _ _ _ I hl hf
/-! SharedTaxis$State.ridesIn(I)I imp=False fuel=True kap=False rt=I thr=False -/
theorem gfX2_22 : ∀ q ∈ ([(1, 6)] : List (Nat × Nat)), GF RX2 22 q := List.forall_mem_cons.mpr ⟨⟨RX2, TX2, 7, _, rfl, in_X2, by decide, q258, Or.inl rfl⟩, fun _ h => by cases h⟩
theorem lvX2_48_J2 : GoodIn lw_all (va_wsF RX2 48 RJ2 ⟨"java/util/List", "size", "()I"⟩ yJ2_size (ws_ yJ2_size cJ2_size 1 (some .int))) ∧ (RJ2, ⟨"java/util/List", "size", "()I"⟩, yJ2_size) ∈ FWL := ⟨lw_good (List.forall_mem_cons.mpr ⟨q886, List.forall_mem_cons.mpr ⟨q381, List.forall_mem_cons.mpr ⟨q383, List.forall_mem_cons.mpr ⟨q118, fun w h => (lw_meth q385 w h).1⟩⟩⟩⟩), List.mem_of_getElem? (i := 16) rfl⟩
theorem hdX2_48_J2 : (⟨"java/util/List", "size", "()I"⟩ : MethodName).cls ≠ "java/lang/invoke/MethodHandle" ∧ (⟨"java/util/List", "size", "()I"⟩ : MethodName).cls ≠ "java/lang/invoke/VarHandle" ∧ (parseMethodDescriptor (⟨"java/util/List", "size", "()I"⟩ : MethodName).desc).map (fun d => d.parameters.length) = some 0 := by decide +kernel
theorem lvX2_54_J2 : GoodIn lw_all (va_wsF RX2 54 RJ2 ⟨"java/util/List", "get", "(I)Ljava/lang/Object;"⟩ yJ2_get (ws_ yJ2_get cJ2_get 2 (some (.object "java/lang/Object")))) ∧ (RJ2, ⟨"java/util/List", "get", "(I)Ljava/lang/Object;"⟩, yJ2_get) ∈ FWL := ⟨lw_good (List.forall_mem_cons.mpr ⟨q888, List.forall_mem_cons.mpr ⟨q489, List.forall_mem_cons.mpr ⟨q491, List.forall_mem_cons.mpr ⟨q118, fun w h => (lw_meth q493 w h).1⟩⟩⟩⟩), List.mem_of_getElem? (i := 10) rfl⟩
theorem hdX2_54_J2 : (⟨"java/util/List", "get", "(I)Ljava/lang/Object;"⟩ : MethodName).cls ≠ "java/lang/invoke/MethodHandle" ∧ (⟨"java/util/List", "get", "(I)Ljava/lang/Object;"⟩ : MethodName).cls ≠ "java/lang/invoke/VarHandle" ∧ (parseMethodDescriptor (⟨"java/util/List", "get", "(I)Ljava/lang/Object;"⟩ : MethodName).desc).map (fun d => d.parameters.length) = some 1 := by decide +kernel
theorem gfX2_82 : ∀ q ∈ ([(14, 8)] : List (Nat × Nat)), GN RX2 82 q := List.forall_mem_cons.mpr ⟨⟨RX16, TX16, 15, _, rfl, in_X16, by decide, q1131⟩, fun _ h => by cases h⟩
def fX2_ridesIn_43 (N : Nat) (σ : St) (r4 : Nat → Int32 → Int32 → Int32 → Option Int32) (x0 : Nat) (x1 : Int32) (x3 : Int32) (y0 : Int32) (y1 : Int32) : Option Int32 := lt (y0 + y1) fun x2_1 : Int32 => lt (x3 + 1) fun x3_2 : Int32 => r4 x0 x1 x2_1 x3_2
def fX2_ridesIn_4 (N : Nat) (σ : St) : Nat → Nat → Int32 → Int32 → Int32 → Option Int32
  | 0, _, _, _, _ => none
  | n + 1, x0, x1, x2, x3 => (gR σ x0 [(1, 6)]).bind fun v_3 : Option Nat => (v_3).bind fun a_4 : Nat => (isC σ a_4 21).bind fun u_5 : Unit => (fJ2_size σ a_4).bind fun v_6 : Int32 => if v_6 ≤ x3 then some x2 else (gR σ x0 [(1, 6)]).bind fun v_8 : Option Nat => (v_8).bind fun a_9 : Nat => (isC σ a_9 21).bind fun u_10 : Unit => (fJ2_get σ a_9 x3).bind fun v_11 : Option Nat => (v_11).bind fun a_13 : Nat => (isC σ a_13 14).bind fun u_14 : Unit => (gI σ a_13 [(14, 8)]).bind fun v_15 : Int32 => if v_15 = x1 then fX2_ridesIn_43 N σ (fX2_ridesIn_4 N σ n) x0 x1 x3 x2 (1 : Int32) else fX2_ridesIn_43 N σ (fX2_ridesIn_4 N σ n) x0 x1 x3 x2 (0 : Int32)
def fX2_ridesIn (N : Nat) (σ : St) (x0 : Nat) (x1 : Int32) : Option Int32 := fX2_ridesIn_4 N σ N x0 x1 (0 : Int32) (0 : Int32)
theorem wX2_ridesIn_43 {E : EV} {l : Launch} {p : Program} {e : Env} {s : State} {m : MethodId} {args : Array Value} {below : List Frame} {meth : Method} {c : Code} {R : Room} {σ : St} {res : Int32} (hX : XK E) (hR : 3 ≤ R.frames ∧ 64 ≤ R.locals) (X : MX E p s m args meth c cX2_ridesIn 4 (some .int) RX2 "ridesIn") (N : Nat) (r4 : Nat → Int32 → Int32 → Int32 → Option Int32) (hr4 : ∀ (x0 : Nat) (x1 : Int32) (x2 : Int32) (x3 : Int32) (H : Heap) (locs : List Loc) (cells slots : Nat) (ls : Array Slot), WI E R s σ H locs cells slots → lv_has ls 4 [(0, .ref x0), (1, .int x1), (2, .int x2), (3, .int x3)] → r4 x0 x1 x2 x3 = some res → W p l e R s m args below meth c H locs cells slots (MQ below (Qd E R.cells R.slots (some (.int res)) σ) args s R.cells R.slots (fr E)) (F0 m 4 ls [])) : ∀ (x0 : Nat) (x1 : Int32) (x3 : Int32) (y0 : Int32) (y1 : Int32) (H : Heap) (locs : List Loc) (cells slots : Nat) (ls : Array Slot), WI E R s σ H locs cells slots → lv_has ls 4 [(0, .ref x0), (1, .int x1), (3, .int x3)] → fX2_ridesIn_43 N σ r4 x0 x1 x3 y0 y1 = some res → W p l e R s m args below meth c H locs cells slots (MQ below (Qd E R.cells R.slots (some (.int res)) σ) args s R.cells R.slots (fr E)) (F0 m 43 ls [.int y1, .int y0]) := by
  intro x0 x1 x3 y0 y1 H locs cells slots ls I hl hf
  obtain ⟨⟨hx, hb, hml, hown, hts⟩, -⟩ := id X
  unfold fX2_ridesIn_43 at hf
  refine lv_iadd hx hb dX2_ridesIn_43 ?_
  obtain ⟨x2_1, ex2_1, hf⟩ := ol hf
  refine nm_i ex2_1 ?_
  refine lv_istore_n (lv' := [(2, .int x2_1), (0, .ref x0), (1, .int x1), (3, .int x3)]) hx hb dX2_ridesIn_44 rfl hl (by decide) rfl (fun ls hl => ?_)
  obtain ⟨x3_2, ex3_2, hf⟩ := ol hf
  refine lv_iinc (v := x3_2) (lv' := [(3, .int x3_2), (2, .int x2_1), (0, .ref x0), (1, .int x1)]) hx hb dX2_ridesIn_45 hl (k := 3) rfl ex3_2 (by decide) rfl (fun ls hl => ?_)
  refine lv_goto (tgt := 4) hx hb dX2_ridesIn_48 (by decide) ?_
  exact hr4 x0 x1 x2_1 x3_2 _ _ _ _ _ I (lv_sub hl [2, 3, 1, 0] rfl) hf
theorem wX2_ridesIn_4 {E : EV} {l : Launch} {p : Program} {e : Env} {s : State} {m : MethodId} {args : Array Value} {below : List Frame} {meth : Method} {c : Code} {R : Room} {σ : St} {res : Int32} (hX : XK E) (hR : 3 ≤ R.frames ∧ 64 ≤ R.locals) (X : MX E p s m args meth c cX2_ridesIn 4 (some .int) RX2 "ridesIn") (N : Nat) : ∀ (n : Nat) (x0 : Nat) (x1 : Int32) (x2 : Int32) (x3 : Int32) (H : Heap) (locs : List Loc) (cells slots : Nat) (ls : Array Slot), WI E R s σ H locs cells slots → lv_has ls 4 [(0, .ref x0), (1, .int x1), (2, .int x2), (3, .int x3)] → fX2_ridesIn_4 N σ n x0 x1 x2 x3 = some res → W p l e R s m args below meth c H locs cells slots (MQ below (Qd E R.cells R.slots (some (.int res)) σ) args s R.cells R.slots (fr E)) (F0 m 4 ls []) := by
  intro n
  induction n with
  | zero => intro x0 x1 x2 x3 H locs cells slots ls I hl hf; exact nomatch (show none = some res from hf)
  | succ n ih =>
    intro x0 x1 x2 x3 H locs cells slots ls I hl hf
    obtain ⟨⟨hx, hb, hml, hown, hts⟩, -⟩ := id X
    rw [fX2_ridesIn_4.eq_2] at hf
    refine lv_iload_n hx hb dX2_ridesIn_4 rfl (lv_at hl 3 rfl) ?_
    refine lv_aload_n hx hb dX2_ridesIn_5 rfl (lv_at hl 0 rfl) ?_
    obtain ⟨v_3, ev_3, hf⟩ := ob hf
    refine g_get X I gfX2_22 (gR_in ev_3) dX2_ridesIn_6 ?_
    obtain ⟨a_4, ea_4, hga_4⟩ := ob hf
    have hla_4 := hl
    have Ia_4 := I
    subst ea_4
    have hf := hga_4
    have hl := hla_4
    have I := Ia_4
    obtain ⟨u_5, eu_5, hf⟩ := ob hf
    obtain ⟨v_6, ev_6, hf⟩ := ob hf
    refine cg_F (vw := (RJ2, TJ2, 3)) (ci := 21) (r := (some (.int v_6))) (σ' := σ) (rs := [.int v_6, .int x3]) (rest := [.int x3]) (As := []) hX X I eu_5 rfl (mJ2_size hX ev_6) lvX2_48_J2 hdX2_48_J2 ⟨Nat.le_trans (Nat.le_of_ble_eq_true rfl) hR.1, Nat.le_trans (Nat.le_of_ble_eq_true rfl) hR.2⟩ rfl hl.1 rfl (Nat.le_of_ble_eq_true rfl) rfl dX2_ridesIn_9 (fun H locs cells slots I => ?_)
    refine lv_icmp_ge (tgt := 51) hx hb dX2_ridesIn_14 (by decide) (fun c_14 => ?_) (fun c_14 => ?_)
    · have hf := ip c_14 hf
      refine lv_iload_n hx hb dX2_ridesIn_51 rfl (lv_at hl 2 rfl) ?_
      cases os hf
      exact r_iret X I dX2_ridesIn_52
    · have hf := im c_14 hf
      refine lv_iload_n hx hb dX2_ridesIn_17 rfl (lv_at hl 2 rfl) ?_
      refine lv_aload_n hx hb dX2_ridesIn_18 rfl (lv_at hl 0 rfl) ?_
      obtain ⟨v_8, ev_8, hf⟩ := ob hf
      refine g_get X I gfX2_22 (gR_in ev_8) dX2_ridesIn_19 ?_
      refine lv_iload_n hx hb dX2_ridesIn_22 rfl (lv_at hl 3 rfl) ?_
      obtain ⟨a_9, ea_9, hga_9⟩ := ob hf
      have hla_9 := hl
      have Ia_9 := I
      subst ea_9
      have hf := hga_9
      have hl := hla_9
      have I := Ia_9
      obtain ⟨u_10, eu_10, hf⟩ := ob hf
      obtain ⟨v_11, ev_11, hf⟩ := ob hf
      refine cg_F (vw := (RJ2, TJ2, 3)) (ci := 21) (r := (some (va_rf v_11))) (σ' := σ) (rs := [va_rf v_11, .int x2]) (rest := [.int x2]) (As := [.int x3]) hX X I eu_10 rfl (mJ2_get hX ev_11) lvX2_54_J2 hdX2_54_J2 ⟨Nat.le_trans (Nat.le_of_ble_eq_true rfl) hR.1, Nat.le_trans (Nat.le_of_ble_eq_true rfl) hR.2⟩ rfl hl.1 rfl (Nat.le_of_ble_eq_true rfl) rfl dX2_ridesIn_23 (fun H locs cells slots I => ?_)
      obtain ⟨a_13, ea_13, hga_13⟩ := ob hf
      have hla_13 := hl
      have Ia_13 := I
      subst ea_13
      have hf := hga_13
      have hl := hla_13
      have I := Ia_13
      obtain ⟨u_14, eu_14, hf⟩ := ob hf
      refine g_cast (vw := (RX16, TX16, 15)) X I rfl q1091 eu_14 dX2_ridesIn_28 ?_
      obtain ⟨v_15, ev_15, hf⟩ := ob hf
      refine g_getN hX X I gfX2_82 (gI_in ev_15) dX2_ridesIn_31 ?_
      refine lv_iload_n hx hb dX2_ridesIn_34 rfl (lv_at hl 1 rfl) ?_
      refine lv_icmp_ne (tgt := 42) hx hb dX2_ridesIn_35 (by decide) (fun c_35 => ?_) (fun c_35 => ?_)
      · have hf := im c_35 hf
        refine lv_iconst (v := 0) hx hb dX2_ridesIn_42 (by decide) ?_
        exact wX2_ridesIn_43 hX hR X N (fX2_ridesIn_4 N σ n) ih x0 x1 x3 x2 (0 : Int32) _ _ _ _ _ I (lv_sub hl [0, 1, 3] rfl) hf
      · have hf := ip c_35 hf
        refine lv_iconst (v := 1) hx hb dX2_ridesIn_38 (by decide) ?_
        refine lv_goto (tgt := 43) hx hb dX2_ridesIn_39 (by decide) ?_
        exact wX2_ridesIn_43 hX hR X N (fX2_ridesIn_4 N σ n) ih x0 x1 x3 x2 (1 : Int32) _ _ _ _ _ I (lv_sub hl [0, 1, 3] rfl) hf
theorem wX2_ridesIn_0 {E : EV} {l : Launch} {p : Program} {e : Env} {s : State} {m : MethodId} {args : Array Value} {below : List Frame} {meth : Method} {c : Code} {R : Room} {σ : St} {res : Int32} (hX : XK E) (hR : 3 ≤ R.frames ∧ 64 ≤ R.locals) (X : MX E p s m args meth c cX2_ridesIn 4 (some .int) RX2 "ridesIn") (N : Nat) : ∀ (x0 : Nat) (x1 : Int32) (H : Heap) (locs : List Loc) (cells slots : Nat) (ls : Array Slot), WI E R s σ H locs cells slots → lv_has ls 4 [(0, .ref x0), (1, .int x1)] → fX2_ridesIn N σ x0 x1 = some res → W p l e R s m args below meth c H locs cells slots (MQ below (Qd E R.cells R.slots (some (.int res)) σ) args s R.cells R.slots (fr E)) (F0 m 0 ls []) := by
  intro x0 x1 H locs cells slots ls I hl hf
  obtain ⟨⟨hx, hb, hml, hown, hts⟩, -⟩ := id X
  unfold fX2_ridesIn at hf
  refine lv_iconst (v := 0) hx hb dX2_ridesIn_0 (by decide) ?_
  refine lv_istore_n (lv' := [(2, .int (0 : Int32)), (0, .ref x0), (1, .int x1)]) hx hb dX2_ridesIn_1 rfl hl (by decide) rfl (fun ls hl => ?_)
  refine lv_iconst (v := 0) hx hb dX2_ridesIn_2 (by decide) ?_
  refine lv_istore_n (lv' := [(3, .int (0 : Int32)), (2, .int (0 : Int32)), (0, .ref x0), (1, .int x1)]) hx hb dX2_ridesIn_3 rfl hl (by decide) rfl (fun ls hl => ?_)
  exact wX2_ridesIn_4 hX hR X N N x0 x1 (0 : Int32) (0 : Int32) _ _ _ _ _ I (lv_sub hl [2, 3, 1, 0] rfl) hf
theorem mX2_ridesIn {E : EV} {l : Launch} {N : Nat} {σ : St} {x0 : Nat} {x1 : Int32} {res : Int32} (hX : XK E) (hf : fX2_ridesIn N σ x0 x1 = some res) : CM E l yX2_ridesIn (ws_ yX2_ridesIn cX2_ridesIn 4 (some .int)) 3 64 [.ref x0, .int x1] σ (some (.int res)) σ := by
  refine CM.of hX.1 (by decide) rfl rfl (Nat.le_of_ble_eq_true rfl) ?_
  intro p e s m below meth c X I ls hl
  exact wX2_ridesIn_0 hX ⟨Nat.le_refl _, Nat.le_refl _⟩ X N _ _ _ _ _ _ _ I hl hf
/-! java/util/ArrayList$Itr.<init>(Ljava/util/ArrayList;)V imp=True fuel=False kap=False rt=None thr=False -/
theorem pfJ21_1 : ∀ q ∈ ([(28, 3)] : List (Nat × Nat)), PI RJ21 1 (.object "java/util/ArrayList") q := List.forall_mem_cons.mpr ⟨⟨RJ21, TJ21, 4, tyJ21, rfl, in_J21, by decide, q357, rfl, tyJ21_ok, nmJ21, rfl, rfl⟩, fun _ h => by cases h⟩
theorem pfJ21_13 : ∀ q ∈ ([(28, 1)] : List (Nat × Nat)), PF RJ21 13 .int q := List.forall_mem_cons.mpr ⟨⟨RJ21, TJ21, 4, _, tyJ21, rfl, in_J21, by decide, q355, Or.inl rfl, tyJ21_ok, nmJ21, rfl, rfl⟩, fun _ h => by cases h⟩
theorem gfJ21_1 : ∀ q ∈ ([(28, 3)] : List (Nat × Nat)), GF RJ21 1 q := List.forall_mem_cons.mpr ⟨⟨RJ21, TJ21, 4, _, rfl, in_J21, by decide, q357, Or.inl rfl⟩, fun _ h => by cases h⟩
theorem gfJ21_17 : ∀ q ∈ ([(21, 0)] : List (Nat × Nat)), GF RJ21 17 q := List.forall_mem_cons.mpr ⟨⟨RJ2, TJ2, 3, _, rfl, in_J2, by decide, q222, Or.inr q223⟩, fun _ h => by cases h⟩
theorem pfJ21_22 : ∀ q ∈ ([(28, 2)] : List (Nat × Nat)), PF RJ21 22 .int q := List.forall_mem_cons.mpr ⟨⟨RJ21, TJ21, 4, _, tyJ21, rfl, in_J21, by decide, q356, Or.inl rfl, tyJ21_ok, nmJ21, rfl, rfl⟩, fun _ h => by cases h⟩
def fJ21_init (σ : St) (x0 : Nat) (x1 : Nat) : Option St := (pV σ x0 [(28, 3)] (.ref x1)).bind fun σ_1 : St => (pV σ_1 x0 [(28, 1)] (.int (-1 : Int32))).bind fun σ_2 : St => (gR σ_2 x0 [(28, 3)]).bind fun v_3 : Option Nat => (v_3).bind fun a_4 : Nat => (gI σ_2 a_4 [(21, 0)]).bind fun v_5 : Int32 => (pV σ_2 x0 [(28, 2)] (.int v_5)).bind fun σ_6 : St => some σ_6
theorem wJ21_init_0 {E : EV} {l : Launch} {p : Program} {e : Env} {s : State} {m : MethodId} {args : Array Value} {below : List Frame} {meth : Method} {c : Code} {R : Room} {res : St} (hX : XK E) (hR : 1 ≤ R.frames ∧ 20 ≤ R.locals) (X : MX E p s m args meth c cJ21_init 2 none RJ21 "<init>") : ∀ (x0 : Nat) (x1 : Nat) (σ : St) (H : Heap) (locs : List Loc) (cells slots : Nat) (ls : Array Slot), WI E R s σ H locs cells slots → lv_has ls 2 [(0, .ref x0), (1, .ref x1)] → fJ21_init σ x0 x1 = some res → W p l e R s m args below meth c H locs cells slots (MQ below (Qd E R.cells R.slots none res) args s R.cells R.slots (fr E)) (F0 m 0 ls []) := by
  intro x0 x1 σ H locs cells slots ls I hl hf
  obtain ⟨⟨hx, hb, hml, hown, hts⟩, -⟩ := id X
  unfold fJ21_init at hf
  refine lv_aload_n hx hb dJ21_init_0 rfl (lv_at hl 0 rfl) ?_
  refine lv_aload_n hx hb dJ21_init_1 rfl (lv_at hl 1 rfl) ?_
  obtain ⟨σ_1, eσ_1, hf⟩ := ob hf
  refine g_putI X I pfJ21_1 rfl rfl eσ_1 dJ21_init_2 (fun H locs I => ?_)
  refine lv_aload_n hx hb dJ21_init_5 rfl (lv_at hl 0 rfl) ?_
  refine g_objInit X ⟨Nat.le_trans (Nat.le_of_ble_eq_true rfl) hR.1, Nat.le_trans (Nat.le_of_ble_eq_true rfl) hR.2⟩ q353 hl.1 (Nat.le_of_ble_eq_true rfl) dJ21_init_6 ?_
  refine lv_aload_n hx hb dJ21_init_9 rfl (lv_at hl 0 rfl) ?_
  refine lv_iconst (v := (-1)) hx hb dJ21_init_10 (by decide) ?_
  obtain ⟨σ_2, eσ_2, hf⟩ := ob hf
  refine g_put X I pfJ21_13 rfl rfl eσ_2 dJ21_init_11 (fun H locs I => ?_)
  refine lv_aload_n hx hb dJ21_init_14 rfl (lv_at hl 0 rfl) ?_
  refine lv_aload_n hx hb dJ21_init_15 rfl (lv_at hl 0 rfl) ?_
  obtain ⟨v_3, ev_3, hf⟩ := ob hf
  refine g_get X I gfJ21_1 (gR_in ev_3) dJ21_init_16 ?_
  obtain ⟨a_4, ea_4, hga_4⟩ := ob hf
  have hla_4 := hl
  have Ia_4 := I
  subst ea_4
  have hf := hga_4
  have hl := hla_4
  have I := Ia_4
  obtain ⟨v_5, ev_5, hf⟩ := ob hf
  refine g_get X I gfJ21_17 (gI_in ev_5) dJ21_init_19 ?_
  obtain ⟨σ_6, eσ_6, hf⟩ := ob hf
  refine g_put X I pfJ21_22 rfl rfl eσ_6 dJ21_init_22 (fun H locs I => ?_)
  cases os hf
  exact r_vret X I dJ21_init_25
theorem mJ21_init {E : EV} {l : Launch} {σ : St} {x0 : Nat} {x1 : Nat} {res : St} (hX : XK E) (hf : fJ21_init σ x0 x1 = some res) : CM E l yJ21_init (ws_ yJ21_init cJ21_init 2 none) 1 20 [.ref x0, .ref x1] σ none res := by
  refine CM.of hX.1 (by decide) rfl rfl (Nat.le_of_ble_eq_true rfl) ?_
  intro p e s m below meth c X I ls hl
  exact wJ21_init_0 hX ⟨Nat.le_refl _, Nat.le_refl _⟩ X _ _ _ _ _ _ _ _ I hl hf
/-! java/util/ArrayList.iterator()Ljava/util/Iterator; imp=True fuel=False kap=False rt=N thr=False -/
theorem noJ2_267 : NO RJ2 267 28 4 [.int 0, .int 0, .int 0, .null] := ⟨RJ21, TJ21, tyJ21, rfl, in_J21, tyJ21_ok, by decide, q348, q349, q147⟩
theorem lvJ2_269 : GoodIn lw_all (ws_ yJ21_init cJ21_init 2 none) ∧ Cond.initialized yJ21_init.cls ∈ lw_all ∧ Cond.methodLink RJ2 269 yJ21_init ∈ lw_all ∧ Cond.instanceMethod yJ21_init ∈ lw_all ∧ yJ21_init.name = "<init>" := ⟨lw_meth q352, q147, q350, q351, rfl⟩
theorem hdJ2_269 : yJ21_init.cls ≠ "java/lang/invoke/MethodHandle" ∧ yJ21_init.cls ≠ "java/lang/invoke/VarHandle" ∧ (parseMethodDescriptor yJ21_init.desc).map (fun d => d.parameters.length) = some 1 := by decide +kernel
def fJ2_iterator (σ : St) (x0 : Nat) : Option (Nat × St) := (nH σ 4 (.inr (28, [.int 0, .int 0, .int 0, .null]))).bind fun (q_1a, q_1s) => (fJ21_init q_1s q_1a x0).bind fun σ_3 : St => some ((q_1a), σ_3)
theorem wJ2_iterator_0 {E : EV} {l : Launch} {p : Program} {e : Env} {s : State} {m : MethodId} {args : Array Value} {below : List Frame} {meth : Method} {c : Code} {R : Room} {res : (Nat × St)} (hX : XK E) (hR : 2 ≤ R.frames ∧ 41 ≤ R.locals) (X : MX E p s m args meth c cJ2_iterator 1 (some (.object "java/util/Iterator")) RJ2 "iterator") : ∀ (x0 : Nat) (σ : St) (H : Heap) (locs : List Loc) (cells slots : Nat) (ls : Array Slot), WI E R s σ H locs cells slots → lv_has ls 1 [(0, .ref x0)] → fJ2_iterator σ x0 = some res → W p l e R s m args below meth c H locs cells slots (MQ below (Qd E R.cells R.slots (some (.ref res.1)) res.2) args s R.cells R.slots (fr E)) (F0 m 0 ls []) := by
  intro x0 σ H locs cells slots ls I hl hf
  obtain ⟨⟨hx, hb, hml, hown, hts⟩, -⟩ := id X
  unfold fJ2_iterator at hf
  obtain ⟨⟨q_1a, q_1s⟩, eq_1, hf⟩ := ob hf
  refine g_new X I noJ2_267 eq_1 dJ2_iterator_0 (fun H locs cells slots I => ?_)
  refine lv_dup hx hb dJ2_iterator_3 rfl ?_
  refine lv_aload_n hx hb dJ2_iterator_4 rfl (lv_at hl 0 rfl) ?_
  obtain ⟨σ_3, ev_2, hf⟩ := ob hf
  refine cm_I (σ' := σ_3) (rs := [.ref q_1a]) (rest := [.ref q_1a]) (As := [.ref x0]) X I (mJ21_init hX ev_2) lvJ2_269 hdJ2_269 ⟨Nat.le_trans (Nat.le_of_ble_eq_true rfl) hR.1, Nat.le_trans (Nat.le_of_ble_eq_true rfl) hR.2⟩ rfl hl.1 rfl (Nat.le_of_ble_eq_true rfl) rfl dJ2_iterator_5 (fun H locs cells slots I => ?_)
  cases os hf
  exact r_aret X I (Or.inl ⟨_, rfl⟩) (Or.inr ⟨_, rfl⟩) dJ2_iterator_8
theorem mJ2_iterator {E : EV} {l : Launch} {σ : St} {x0 : Nat} {res : (Nat × St)} (hX : XK E) (hf : fJ2_iterator σ x0 = some res) : CM E l yJ2_iterator (ws_ yJ2_iterator cJ2_iterator 1 (some (.object "java/util/Iterator"))) 2 41 [.ref x0] σ (some (.ref res.1)) res.2 := by
  refine CM.of hX.1 (by decide) rfl rfl (Nat.le_of_ble_eq_true rfl) ?_
  intro p e s m below meth c X I ls hl
  exact wJ2_iterator_0 hX ⟨Nat.le_refl _, Nat.le_refl _⟩ X _ _ _ _ _ _ _ I hl hf
/-! java/util/ArrayList$Itr.hasNext()Z imp=False fuel=False kap=False rt=I thr=False -/
theorem gfJ21_25 : ∀ q ∈ ([(28, 0)] : List (Nat × Nat)), GF RJ21 25 q := List.forall_mem_cons.mpr ⟨⟨RJ21, TJ21, 4, _, rfl, in_J21, by decide, q354, Or.inl rfl⟩, fun _ h => by cases h⟩
theorem gfJ21_28 : ∀ q ∈ ([(21, 2)] : List (Nat × Nat)), GN RJ21 28 q := List.forall_mem_cons.mpr ⟨⟨RJ2, TJ2, 3, _, rfl, in_J2, by decide, q219⟩, fun _ h => by cases h⟩
def fJ21_hasNext (σ : St) (x0 : Nat) : Option Int32 := (gI σ x0 [(28, 0)]).bind fun v_1 : Int32 => (gR σ x0 [(28, 3)]).bind fun v_2 : Option Nat => (v_2).bind fun a_3 : Nat => (gI σ a_3 [(21, 2)]).bind fun v_4 : Int32 => if v_1 = v_4 then some (0 : Int32) else some (1 : Int32)
theorem wJ21_hasNext_0 {E : EV} {l : Launch} {p : Program} {e : Env} {s : State} {m : MethodId} {args : Array Value} {below : List Frame} {meth : Method} {c : Code} {R : Room} {σ : St} {res : Int32} (hX : XK E) (hR : 0 ≤ R.frames ∧ 0 ≤ R.locals) (X : MX E p s m args meth c cJ21_hasNext 1 (some .boolean) RJ21 "hasNext") : ∀ (x0 : Nat) (H : Heap) (locs : List Loc) (cells slots : Nat) (ls : Array Slot), WI E R s σ H locs cells slots → lv_has ls 1 [(0, .ref x0)] → fJ21_hasNext σ x0 = some res → W p l e R s m args below meth c H locs cells slots (MQ below (Qd E R.cells R.slots (some (.int res)) σ) args s R.cells R.slots (fr E)) (F0 m 0 ls []) := by
  intro x0 H locs cells slots ls I hl hf
  obtain ⟨⟨hx, hb, hml, hown, hts⟩, -⟩ := id X
  unfold fJ21_hasNext at hf
  refine lv_aload_n hx hb dJ21_hasNext_0 rfl (lv_at hl 0 rfl) ?_
  obtain ⟨v_1, ev_1, hf⟩ := ob hf
  refine g_get X I gfJ21_25 (gI_in ev_1) dJ21_hasNext_1 ?_
  refine lv_aload_n hx hb dJ21_hasNext_4 rfl (lv_at hl 0 rfl) ?_
  obtain ⟨v_2, ev_2, hf⟩ := ob hf
  refine g_get X I gfJ21_1 (gR_in ev_2) dJ21_hasNext_5 ?_
  obtain ⟨a_3, ea_3, hga_3⟩ := ob hf
  have hla_3 := hl
  have Ia_3 := I
  subst ea_3
  have hf := hga_3
  have hl := hla_3
  have I := Ia_3
  obtain ⟨v_4, ev_4, hf⟩ := ob hf
  refine g_getN hX X I gfJ21_28 (gI_in ev_4) dJ21_hasNext_8 ?_
  refine lv_icmp_eq (tgt := 18) hx hb dJ21_hasNext_11 (by decide) (fun c_11 => ?_) (fun c_11 => ?_)
  · have hf := ip c_11 hf
    refine lv_iconst (v := 0) hx hb dJ21_hasNext_18 (by decide) ?_
    cases os hf
    exact r_zret X I (Or.inl rfl) dJ21_hasNext_19
  · have hf := im c_11 hf
    refine lv_iconst (v := 1) hx hb dJ21_hasNext_14 (by decide) ?_
    refine lv_goto (tgt := 19) hx hb dJ21_hasNext_15 (by decide) ?_
    cases os hf
    exact r_zret X I (Or.inr rfl) dJ21_hasNext_19
theorem mJ21_hasNext {E : EV} {l : Launch} {σ : St} {x0 : Nat} {res : Int32} (hX : XK E) (hf : fJ21_hasNext σ x0 = some res) : CM E l yJ21_hasNext (ws_ yJ21_hasNext cJ21_hasNext 1 (some .boolean)) 0 0 [.ref x0] σ (some (.int res)) σ := by
  refine CM.of hX.1 (by decide) rfl rfl (Nat.le_of_ble_eq_true rfl) ?_
  intro p e s m below meth c X I ls hl
  exact wJ21_hasNext_0 hX ⟨Nat.le_refl _, Nat.le_refl _⟩ X _ _ _ _ _ _ I hl hf
/-! java/util/ArrayList$Itr.checkForComodification()V imp=False fuel=False kap=False rt=None thr=False -/
theorem gfJ21_22 : ∀ q ∈ ([(28, 2)] : List (Nat × Nat)), GF RJ21 22 q := List.forall_mem_cons.mpr ⟨⟨RJ21, TJ21, 4, _, rfl, in_J21, by decide, q356, Or.inl rfl⟩, fun _ h => by cases h⟩
def fJ21_checkForComodification (σ : St) (x0 : Nat) : Option Unit := (gR σ x0 [(28, 3)]).bind fun v_1 : Option Nat => (v_1).bind fun a_2 : Nat => (gI σ a_2 [(21, 0)]).bind fun v_3 : Int32 => (gI σ x0 [(28, 2)]).bind fun v_4 : Int32 => if v_3 = v_4 then some () else none
theorem wJ21_checkForComodification_0 {E : EV} {l : Launch} {p : Program} {e : Env} {s : State} {m : MethodId} {args : Array Value} {below : List Frame} {meth : Method} {c : Code} {R : Room} {σ : St} {res : Unit} (hX : XK E) (hR : 0 ≤ R.frames ∧ 0 ≤ R.locals) (X : MX E p s m args meth c cJ21_checkForComodification 1 none RJ21 "checkForComodification") : ∀ (x0 : Nat) (H : Heap) (locs : List Loc) (cells slots : Nat) (ls : Array Slot), WI E R s σ H locs cells slots → lv_has ls 1 [(0, .ref x0)] → fJ21_checkForComodification σ x0 = some res → W p l e R s m args below meth c H locs cells slots (MQ below (Qd E R.cells R.slots none σ) args s R.cells R.slots (fr E)) (F0 m 0 ls []) := by
  intro x0 H locs cells slots ls I hl hf
  obtain ⟨⟨hx, hb, hml, hown, hts⟩, -⟩ := id X
  unfold fJ21_checkForComodification at hf
  refine lv_aload_n hx hb dJ21_checkForComodification_0 rfl (lv_at hl 0 rfl) ?_
  obtain ⟨v_1, ev_1, hf⟩ := ob hf
  refine g_get X I gfJ21_1 (gR_in ev_1) dJ21_checkForComodification_1 ?_
  obtain ⟨a_2, ea_2, hga_2⟩ := ob hf
  have hla_2 := hl
  have Ia_2 := I
  subst ea_2
  have hf := hga_2
  have hl := hla_2
  have I := Ia_2
  obtain ⟨v_3, ev_3, hf⟩ := ob hf
  refine g_get X I gfJ21_17 (gI_in ev_3) dJ21_checkForComodification_4 ?_
  refine lv_aload_n hx hb dJ21_checkForComodification_7 rfl (lv_at hl 0 rfl) ?_
  obtain ⟨v_4, ev_4, hf⟩ := ob hf
  refine g_get X I gfJ21_22 (gI_in ev_4) dJ21_checkForComodification_8 ?_
  refine lv_icmp_eq (tgt := 22) hx hb dJ21_checkForComodification_11 (by decide) (fun c_11 => ?_) (fun c_11 => ?_)
  · have hf := ip c_11 hf
    cases os hf
    exact r_vret X I dJ21_checkForComodification_22
  · have hf := im c_11 hf
    exact nomatch hf
theorem mJ21_checkForComodification {E : EV} {l : Launch} {σ : St} {x0 : Nat} {res : Unit} (hX : XK E) (hf : fJ21_checkForComodification σ x0 = some res) : CM E l yJ21_checkForComodification (ws_ yJ21_checkForComodification cJ21_checkForComodification 1 none) 0 0 [.ref x0] σ none σ := by
  refine CM.of hX.1 (by decide) rfl rfl (Nat.le_of_ble_eq_true rfl) ?_
  intro p e s m below meth c X I ls hl
  exact wJ21_checkForComodification_0 hX ⟨Nat.le_refl _, Nat.le_refl _⟩ X _ _ _ _ _ _ I hl hf
/-! java/util/ArrayList$Itr.next()Ljava/lang/Object; imp=True fuel=False kap=False rt=O thr=False -/
theorem lvJ21_31 : GoodIn lw_all (wsV RJ21 31 RJ21 yJ21_checkForComodification (ws_ yJ21_checkForComodification cJ21_checkForComodification 1 none)) := lw_V q794 q795 q796 q147 q797
theorem hdJ21_31 : yJ21_checkForComodification.cls = RJ21 ∧ yJ21_checkForComodification.cls ≠ "java/lang/invoke/MethodHandle" ∧ yJ21_checkForComodification.cls ≠ "java/lang/invoke/VarHandle" ∧ (parseMethodDescriptor yJ21_checkForComodification.desc).map (fun d => d.parameters.length) = some 0 := by decide +kernel
theorem gfJ21_37 : ∀ q ∈ ([(21, 1)] : List (Nat × Nat)), GF RJ21 37 q := List.forall_mem_cons.mpr ⟨⟨RJ2, TJ2, 3, _, rfl, in_J2, by decide, q218, Or.inl rfl⟩, fun _ h => by cases h⟩
theorem pfJ21_25 : ∀ q ∈ ([(28, 0)] : List (Nat × Nat)), PF RJ21 25 .int q := List.forall_mem_cons.mpr ⟨⟨RJ21, TJ21, 4, _, tyJ21, rfl, in_J21, by decide, q354, Or.inl rfl, tyJ21_ok, nmJ21, rfl, rfl⟩, fun _ h => by cases h⟩
def fJ21_next (σ : St) (x0 : Nat) : Option ((Option Nat) × St) := (isC σ x0 28).bind fun u_1 : Unit => (fJ21_checkForComodification σ x0).bind fun v_2 : Unit => (gI σ x0 [(28, 0)]).bind fun v_4 : Int32 => (gR σ x0 [(28, 3)]).bind fun v_5 : Option Nat => (v_5).bind fun a_6 : Nat => (gI σ a_6 [(21, 2)]).bind fun v_7 : Int32 => if v_4 < v_7 then (gR σ x0 [(28, 3)]).bind fun v_8 : Option Nat => (v_8).bind fun a_9 : Nat => (gR σ a_9 [(21, 1)]).bind fun v_10 : Option Nat => (v_10).bind fun a_11 : Nat => (aL σ a_11).bind fun v_12 : Int32 => if v_4 < v_12 then (pV σ x0 [(28, 0)] (.int (v_4 + (1 : Int32)))).bind fun σ_13 : St => (pV σ_13 x0 [(28, 1)] (.int v_4)).bind fun σ_14 : St => (aR σ_14 a_11 3 v_4).bind fun v_15 : Option Nat => some ((v_15), σ_14) else none else none
theorem wJ21_next_0 {E : EV} {l : Launch} {p : Program} {e : Env} {s : State} {m : MethodId} {args : Array Value} {below : List Frame} {meth : Method} {c : Code} {R : Room} {res : ((Option Nat) × St)} (hX : XK E) (hR : 1 ≤ R.frames ∧ 20 ≤ R.locals) (X : MX E p s m args meth c cJ21_next 3 (some (.object "java/lang/Object")) RJ21 "next") : ∀ (x0 : Nat) (σ : St) (H : Heap) (locs : List Loc) (cells slots : Nat) (ls : Array Slot), WI E R s σ H locs cells slots → lv_has ls 3 [(0, .ref x0)] → fJ21_next σ x0 = some res → W p l e R s m args below meth c H locs cells slots (MQ below (Qd E R.cells R.slots (some (va_rf res.1)) res.2) args s R.cells R.slots (fr E)) (F0 m 0 ls []) := by
  intro x0 σ H locs cells slots ls I hl hf
  obtain ⟨⟨hx, hb, hml, hown, hts⟩, -⟩ := id X
  unfold fJ21_next at hf
  refine lv_aload_n hx hb dJ21_next_0 rfl (lv_at hl 0 rfl) ?_
  obtain ⟨u_1, eu_1, hf⟩ := ob hf
  obtain ⟨v_2, ev_2, hf⟩ := ob hf
  refine cg_V (vw := (RJ21, TJ21, 4)) (ci := 28) (r := none) (σ' := σ) (rs := []) (rest := []) (As := []) X I eu_1 rfl (mJ21_checkForComodification hX ev_2) lvJ21_31 hdJ21_31 ⟨Nat.le_trans (Nat.le_of_ble_eq_true rfl) hR.1, Nat.le_trans (Nat.le_of_ble_eq_true rfl) hR.2⟩ rfl hl.1 rfl (Nat.le_of_ble_eq_true rfl) rfl dJ21_next_1 (fun H locs cells slots I => ?_)
  refine lv_aload_n hx hb dJ21_next_4 rfl (lv_at hl 0 rfl) ?_
  obtain ⟨v_4, ev_4, hf⟩ := ob hf
  refine g_get X I gfJ21_25 (gI_in ev_4) dJ21_next_5 ?_
  refine lv_istore_n (lv' := [(1, .int v_4), (0, .ref x0)]) hx hb dJ21_next_8 rfl hl (by decide) rfl (fun ls hl => ?_)
  refine lv_iload_n hx hb dJ21_next_9 rfl (lv_at hl 0 rfl) ?_
  refine lv_aload_n hx hb dJ21_next_10 rfl (lv_at hl 1 rfl) ?_
  obtain ⟨v_5, ev_5, hf⟩ := ob hf
  refine g_get X I gfJ21_1 (gR_in ev_5) dJ21_next_11 ?_
  obtain ⟨a_6, ea_6, hga_6⟩ := ob hf
  have hla_6 := hl
  have Ia_6 := I
  subst ea_6
  have hf := hga_6
  have hl := hla_6
  have I := Ia_6
  obtain ⟨v_7, ev_7, hf⟩ := ob hf
  refine g_getN hX X I gfJ21_28 (gI_in ev_7) dJ21_next_14 ?_
  refine lv_icmp_lt (tgt := 28) hx hb dJ21_next_17 (by decide) (fun c_17 => ?_) (fun c_17 => ?_)
  · have hf := ip c_17 hf
    refine lv_aload_n hx hb dJ21_next_28 rfl (lv_at hl 1 rfl) ?_
    obtain ⟨v_8, ev_8, hf⟩ := ob hf
    refine g_get X I gfJ21_1 (gR_in ev_8) dJ21_next_29 ?_
    obtain ⟨a_9, ea_9, hga_9⟩ := ob hf
    have hla_9 := hl
    have Ia_9 := I
    subst ea_9
    have hf := hga_9
    have hl := hla_9
    have I := Ia_9
    obtain ⟨v_10, ev_10, hf⟩ := ob hf
    refine g_get X I gfJ21_37 (gR_in ev_10) dJ21_next_32 ?_
    refine lo_astore_n (x := v_10) (lv' := [(2, va_rf v_10), (1, .int v_4), (0, .ref x0)]) hx hb dJ21_next_35 rfl hl (by decide) rfl (fun ls hl => ?_)
    refine lv_iload_n hx hb dJ21_next_36 rfl (lv_at hl 1 rfl) ?_
    refine lo_aload_n (x := v_10) hx hb dJ21_next_37 rfl (lv_at hl 0 rfl) ?_
    obtain ⟨a_11, ea_11, hga_11⟩ := ob hf
    have hla_11 := hl
    have Ia_11 := I
    subst ea_11
    have hf := hga_11
    have hl := hla_11
    have I := Ia_11
    obtain ⟨v_12, ev_12, hf⟩ := ob hf
    refine g_alen X I ev_12 dJ21_next_38 ?_
    refine lv_icmp_lt (tgt := 50) hx hb dJ21_next_39 (by decide) (fun c_39 => ?_) (fun c_39 => ?_)
    · have hf := ip c_39 hf
      refine lv_aload_n hx hb dJ21_next_50 rfl (lv_at hl 2 rfl) ?_
      refine lv_iload_n hx hb dJ21_next_51 rfl (lv_at hl 1 rfl) ?_
      refine lv_iconst (v := 1) hx hb dJ21_next_52 (by decide) ?_
      refine lv_iadd hx hb dJ21_next_53 ?_
      obtain ⟨σ_13, eσ_13, hf⟩ := ob hf
      refine g_put X I pfJ21_25 rfl rfl eσ_13 dJ21_next_54 (fun H locs I => ?_)
      refine lv_aload_n hx hb dJ21_next_57 rfl (lv_at hl 0 rfl) ?_
      refine lv_aload_n hx hb dJ21_next_58 rfl (lv_at hl 2 rfl) ?_
      refine lv_iload_n hx hb dJ21_next_59 rfl (lv_at hl 1 rfl) ?_
      refine lv_dup_x1 hx hb dJ21_next_60 rfl rfl ?_
      obtain ⟨σ_14, eσ_14, hf⟩ := ob hf
      refine g_put X I pfJ21_13 rfl rfl eσ_14 dJ21_next_61 (fun H locs I => ?_)
      obtain ⟨v_15, ev_15, hf⟩ := ob hf
      refine g_aald X I (by decide) rfl ev_15 dJ21_next_64 ?_
      cases os hf
      exact r_aret X I (Or.inl ⟨_, rfl⟩) (rf_or _) dJ21_next_65
    · have hf := im c_39 hf
      exact nomatch hf
  · have hf := im c_17 hf
    exact nomatch hf
theorem mJ21_next {E : EV} {l : Launch} {σ : St} {x0 : Nat} {res : ((Option Nat) × St)} (hX : XK E) (hf : fJ21_next σ x0 = some res) : CM E l yJ21_next (ws_ yJ21_next cJ21_next 3 (some (.object "java/lang/Object"))) 1 20 [.ref x0] σ (some (va_rf res.1)) res.2 := by
  refine CM.of hX.1 (by decide) rfl rfl (Nat.le_of_ble_eq_true rfl) ?_
  intro p e s m below meth c X I ls hl
  exact wJ21_next_0 hX ⟨Nat.le_refl _, Nat.le_refl _⟩ X _ _ _ _ _ _ _ I hl hf
/-! SharedTaxis.allStops()I imp=True fuel=True kap=False rt=I thr=False -/
theorem lvX1_194_J21 : GoodIn lw_all (va_wsF RX1 194 RJ21 ⟨"java/util/Iterator", "hasNext", "()Z"⟩ yJ21_hasNext (ws_ yJ21_hasNext cJ21_hasNext 1 (some .boolean))) ∧ (RJ21, ⟨"java/util/Iterator", "hasNext", "()Z"⟩, yJ21_hasNext) ∈ FWL := ⟨lw_good (List.forall_mem_cons.mpr ⟨q368, List.forall_mem_cons.mpr ⟨q393, List.forall_mem_cons.mpr ⟨q395, List.forall_mem_cons.mpr ⟨q147, fun w h => (lw_meth q397 w h).1⟩⟩⟩⟩), List.mem_of_getElem? (i := 17) rfl⟩
theorem hdX1_194_J21 : (⟨"java/util/Iterator", "hasNext", "()Z"⟩ : MethodName).cls ≠ "java/lang/invoke/MethodHandle" ∧ (⟨"java/util/Iterator", "hasNext", "()Z"⟩ : MethodName).cls ≠ "java/lang/invoke/VarHandle" ∧ (parseMethodDescriptor (⟨"java/util/Iterator", "hasNext", "()Z"⟩ : MethodName).desc).map (fun d => d.parameters.length) = some 0 := by decide +kernel
theorem lvX1_200_J21 : GoodIn lw_all (va_wsF RX1 200 RJ21 ⟨"java/util/Iterator", "next", "()Ljava/lang/Object;"⟩ yJ21_next (ws_ yJ21_next cJ21_next 3 (some (.object "java/lang/Object")))) ∧ (RJ21, ⟨"java/util/Iterator", "next", "()Ljava/lang/Object;"⟩, yJ21_next) ∈ FWL := ⟨lw_good (List.forall_mem_cons.mpr ⟨q399, List.forall_mem_cons.mpr ⟨q789, List.forall_mem_cons.mpr ⟨q791, List.forall_mem_cons.mpr ⟨q147, fun w h => (lw_meth q793 w h).1⟩⟩⟩⟩), List.mem_of_getElem? (i := 18) rfl⟩
theorem hdX1_200_J21 : (⟨"java/util/Iterator", "next", "()Ljava/lang/Object;"⟩ : MethodName).cls ≠ "java/lang/invoke/MethodHandle" ∧ (⟨"java/util/Iterator", "next", "()Ljava/lang/Object;"⟩ : MethodName).cls ≠ "java/lang/invoke/VarHandle" ∧ (parseMethodDescriptor (⟨"java/util/Iterator", "next", "()Ljava/lang/Object;"⟩ : MethodName).desc).map (fun d => d.parameters.length) = some 0 := by decide +kernel
theorem gfX1_203 : ∀ q ∈ ([(10, 7)] : List (Nat × Nat)), GN RX1 203 q := List.forall_mem_cons.mpr ⟨⟨RX12, TX12, 15, _, rfl, in_X12, by decide, q934⟩, fun _ h => by cases h⟩
theorem lvX1_190_J2 : GoodIn lw_all (va_wsF RX1 190 RJ2 ⟨"java/util/List", "iterator", "()Ljava/util/Iterator;"⟩ yJ2_iterator (ws_ yJ2_iterator cJ2_iterator 1 (some (.object "java/util/Iterator")))) ∧ (RJ2, ⟨"java/util/List", "iterator", "()Ljava/util/Iterator;"⟩, yJ2_iterator) ∈ FWL := ⟨lw_good (List.forall_mem_cons.mpr ⟨q339, List.forall_mem_cons.mpr ⟨q343, List.forall_mem_cons.mpr ⟨q345, List.forall_mem_cons.mpr ⟨q118, fun w h => (lw_meth q347 w h).1⟩⟩⟩⟩), List.mem_of_getElem? (i := 13) rfl⟩
theorem hdX1_190_J2 : (⟨"java/util/List", "iterator", "()Ljava/util/Iterator;"⟩ : MethodName).cls ≠ "java/lang/invoke/MethodHandle" ∧ (⟨"java/util/List", "iterator", "()Ljava/util/Iterator;"⟩ : MethodName).cls ≠ "java/lang/invoke/VarHandle" ∧ (parseMethodDescriptor (⟨"java/util/List", "iterator", "()Ljava/util/Iterator;"⟩ : MethodName).desc).map (fun d => d.parameters.length) = some 0 := by decide +kernel
def fX1_allStops_15 (N : Nat) : Nat → Int32 → Nat → St → Option (Int32 × St)
  | 0, _, _, _ => none
  | n + 1, x1, x2, σ => (isC σ x2 28).bind fun u_1 : Unit => (fJ21_hasNext σ x2).bind fun v_2 : Int32 => if v_2 = 0 then some (x1, σ) else (isC σ x2 28).bind fun u_4 : Unit => (fJ21_next σ x2).bind fun (v_5, σ_6) => (v_5).bind fun a_7 : Nat => (isC σ_6 a_7 10).bind fun u_8 : Unit => (gR σ_6 a_7 [(10, 7)]).bind fun v_9 : Option Nat => (v_9).bind fun a_10 : Nat => (isC σ_6 a_10 21).bind fun u_11 : Unit => (fJ2_size σ_6 a_10).bind fun v_12 : Int32 => lt (x1 + v_12) fun x1_14 : Int32 => fX1_allStops_15 N n x1_14 x2 σ_6
def fX1_allStops (N : Nat) (σ : St) (x0 : Nat) : Option (Int32 × St) := (gR σ x0 [(0, 3)]).bind fun v_15 : Option Nat => (v_15).bind fun a_16 : Nat => (gR σ a_16 [(1, 5)]).bind fun v_17 : Option Nat => (v_17).bind fun a_18 : Nat => (isC σ a_18 21).bind fun u_19 : Unit => (fJ2_iterator σ a_18).bind fun (v_20, σ_21) => fX1_allStops_15 N N (0 : Int32) v_20 σ_21
theorem wX1_allStops_15 {E : EV} {l : Launch} {p : Program} {e : Env} {s : State} {m : MethodId} {args : Array Value} {below : List Frame} {meth : Method} {c : Code} {R : Room} {res : (Int32 × St)} (hX : XK E) (hR : 3 ≤ R.frames ∧ 61 ≤ R.locals) (X : MX E p s m args meth c cX1_allStops 4 (some .int) RX1 "allStops") (N : Nat) : ∀ (n : Nat) (x1 : Int32) (x2 : Nat) (σ : St) (H : Heap) (locs : List Loc) (cells slots : Nat) (ls : Array Slot), WI E R s σ H locs cells slots → lv_has ls 4 [(1, .int x1), (2, .ref x2)] → fX1_allStops_15 N n x1 x2 σ = some res → W p l e R s m args below meth c H locs cells slots (MQ below (Qd E R.cells R.slots (some (.int res.1)) res.2) args s R.cells R.slots (fr E)) (F0 m 15 ls []) := by
  intro n
  induction n with
  | zero => intro x1 x2 σ H locs cells slots ls I hl hf; exact nomatch (show none = some res from hf)
  | succ n ih =>
    intro x1 x2 σ H locs cells slots ls I hl hf
    obtain ⟨⟨hx, hb, hml, hown, hts⟩, -⟩ := id X
    rw [fX1_allStops_15.eq_2] at hf
    refine lv_aload_n hx hb dX1_allStops_15 rfl (lv_at hl 1 rfl) ?_
    obtain ⟨u_1, eu_1, hf⟩ := ob hf
    obtain ⟨v_2, ev_2, hf⟩ := ob hf
    refine cg_F (vw := (RJ21, TJ21, 4)) (ci := 28) (r := (some (.int v_2))) (σ' := σ) (rs := [.int v_2]) (rest := []) (As := []) hX X I eu_1 rfl (mJ21_hasNext hX ev_2) lvX1_194_J21 hdX1_194_J21 ⟨Nat.le_trans (Nat.le_of_ble_eq_true rfl) hR.1, Nat.le_trans (Nat.le_of_ble_eq_true rfl) hR.2⟩ rfl hl.1 rfl (Nat.le_of_ble_eq_true rfl) rfl dX1_allStops_16 (fun H locs cells slots I => ?_)
    refine lv_if_eq (tgt := 49) hx hb dX1_allStops_21 (by decide) (fun c_21 => ?_) (fun c_21 => ?_)
    · have hf := ip c_21 hf
      refine lv_iload_n hx hb dX1_allStops_49 rfl (lv_at hl 0 rfl) ?_
      cases os hf
      exact r_iret X I dX1_allStops_50
    · have hf := im c_21 hf
      refine lv_aload_n hx hb dX1_allStops_24 rfl (lv_at hl 1 rfl) ?_
      obtain ⟨u_4, eu_4, hf⟩ := ob hf
      obtain ⟨⟨v_5, σ_6⟩, ev_5, hf⟩ := ob hf
      refine cg_F (vw := (RJ21, TJ21, 4)) (ci := 28) (r := (some (va_rf v_5))) (σ' := σ_6) (rs := [va_rf v_5]) (rest := []) (As := []) hX X I eu_4 rfl (mJ21_next hX ev_5) lvX1_200_J21 hdX1_200_J21 ⟨Nat.le_trans (Nat.le_of_ble_eq_true rfl) hR.1, Nat.le_trans (Nat.le_of_ble_eq_true rfl) hR.2⟩ rfl hl.1 rfl (Nat.le_of_ble_eq_true rfl) rfl dX1_allStops_25 (fun H locs cells slots I => ?_)
      obtain ⟨a_7, ea_7, hga_7⟩ := ob hf
      have hla_7 := hl
      have Ia_7 := I
      subst ea_7
      have hf := hga_7
      have hl := hla_7
      have I := Ia_7
      obtain ⟨u_8, eu_8, hf⟩ := ob hf
      refine g_cast (vw := (RX12, TX12, 15)) X I rfl q805 eu_8 dX1_allStops_30 ?_
      refine lv_astore_n (lv' := [(3, .ref a_7), (1, .int x1), (2, .ref x2)]) hx hb dX1_allStops_33 rfl hl (by decide) rfl (fun ls hl => ?_)
      refine lv_iload_n hx hb dX1_allStops_34 rfl (lv_at hl 1 rfl) ?_
      refine lv_aload_n hx hb dX1_allStops_35 rfl (lv_at hl 0 rfl) ?_
      obtain ⟨v_9, ev_9, hf⟩ := ob hf
      refine g_getN hX X I gfX1_203 (gR_in ev_9) dX1_allStops_36 ?_
      obtain ⟨a_10, ea_10, hga_10⟩ := ob hf
      have hla_10 := hl
      have Ia_10 := I
      subst ea_10
      have hf := hga_10
      have hl := hla_10
      have I := Ia_10
      obtain ⟨u_11, eu_11, hf⟩ := ob hf
      obtain ⟨v_12, ev_12, hf⟩ := ob hf
      refine cg_F (vw := (RJ2, TJ2, 3)) (ci := 21) (r := (some (.int v_12))) (σ' := σ_6) (rs := [.int v_12, .int x1]) (rest := [.int x1]) (As := []) hX X I eu_11 rfl (mJ2_size hX ev_12) lvX1_137_J2 hdX1_137_J2 ⟨Nat.le_trans (Nat.le_of_ble_eq_true rfl) hR.1, Nat.le_trans (Nat.le_of_ble_eq_true rfl) hR.2⟩ rfl hl.1 rfl (Nat.le_of_ble_eq_true rfl) rfl dX1_allStops_39 (fun H locs cells slots I => ?_)
      refine lv_iadd hx hb dX1_allStops_44 ?_
      obtain ⟨x1_14, ex1_14, hf⟩ := ol hf
      refine nm_i ex1_14 ?_
      refine lv_istore_n (lv' := [(1, .int x1_14), (3, .ref a_7), (2, .ref x2)]) hx hb dX1_allStops_45 rfl hl (by decide) rfl (fun ls hl => ?_)
      refine lv_goto (tgt := 15) hx hb dX1_allStops_46 (by decide) ?_
      exact ih x1_14 x2 σ_6 _ _ _ _ _ I (lv_sub hl [0, 2] rfl) hf
theorem wX1_allStops_0 {E : EV} {l : Launch} {p : Program} {e : Env} {s : State} {m : MethodId} {args : Array Value} {below : List Frame} {meth : Method} {c : Code} {R : Room} {res : (Int32 × St)} (hX : XK E) (hR : 3 ≤ R.frames ∧ 61 ≤ R.locals) (X : MX E p s m args meth c cX1_allStops 4 (some .int) RX1 "allStops") (N : Nat) : ∀ (x0 : Nat) (σ : St) (H : Heap) (locs : List Loc) (cells slots : Nat) (ls : Array Slot), WI E R s σ H locs cells slots → lv_has ls 4 [(0, .ref x0)] → fX1_allStops N σ x0 = some res → W p l e R s m args below meth c H locs cells slots (MQ below (Qd E R.cells R.slots (some (.int res.1)) res.2) args s R.cells R.slots (fr E)) (F0 m 0 ls []) := by
  intro x0 σ H locs cells slots ls I hl hf
  obtain ⟨⟨hx, hb, hml, hown, hts⟩, -⟩ := id X
  unfold fX1_allStops at hf
  refine lv_iconst (v := 0) hx hb dX1_allStops_0 (by decide) ?_
  refine lv_istore_n (lv' := [(1, .int (0 : Int32)), (0, .ref x0)]) hx hb dX1_allStops_1 rfl hl (by decide) rfl (fun ls hl => ?_)
  refine lv_aload_n hx hb dX1_allStops_2 rfl (lv_at hl 1 rfl) ?_
  obtain ⟨v_15, ev_15, hf⟩ := ob hf
  refine g_get X I gfX1_87 (gR_in ev_15) dX1_allStops_3 ?_
  obtain ⟨a_16, ea_16, hga_16⟩ := ob hf
  have hla_16 := hl
  have Ia_16 := I
  subst ea_16
  have hf := hga_16
  have hl := hla_16
  have I := Ia_16
  obtain ⟨v_17, ev_17, hf⟩ := ob hf
  refine g_getN hX X I gfX1_133 (gR_in ev_17) dX1_allStops_6 ?_
  obtain ⟨a_18, ea_18, hga_18⟩ := ob hf
  have hla_18 := hl
  have Ia_18 := I
  subst ea_18
  have hf := hga_18
  have hl := hla_18
  have I := Ia_18
  obtain ⟨u_19, eu_19, hf⟩ := ob hf
  obtain ⟨⟨v_20, σ_21⟩, ev_20, hf⟩ := ob hf
  refine cg_F (vw := (RJ2, TJ2, 3)) (ci := 21) (r := (some (.ref v_20))) (σ' := σ_21) (rs := [.ref v_20]) (rest := []) (As := []) hX X I eu_19 rfl (mJ2_iterator hX ev_20) lvX1_190_J2 hdX1_190_J2 ⟨Nat.le_trans (Nat.le_of_ble_eq_true rfl) hR.1, Nat.le_trans (Nat.le_of_ble_eq_true rfl) hR.2⟩ rfl hl.1 rfl (Nat.le_of_ble_eq_true rfl) rfl dX1_allStops_9 (fun H locs cells slots I => ?_)
  refine lv_astore_n (lv' := [(2, .ref v_20), (1, .int (0 : Int32)), (0, .ref x0)]) hx hb dX1_allStops_14 rfl hl (by decide) rfl (fun ls hl => ?_)
  exact wX1_allStops_15 hX hR X N N (0 : Int32) v_20 σ_21 _ _ _ _ _ I (lv_sub hl [1, 0] rfl) hf
theorem mX1_allStops {E : EV} {l : Launch} {N : Nat} {σ : St} {x0 : Nat} {res : (Int32 × St)} (hX : XK E) (hf : fX1_allStops N σ x0 = some res) : CM E l yX1_allStops (ws_ yX1_allStops cX1_allStops 4 (some .int)) 3 61 [.ref x0] σ (some (.int res.1)) res.2 := by
  refine CM.of hX.1 (by decide) rfl rfl (Nat.le_of_ble_eq_true rfl) ?_
  intro p e s m below meth c X I ls hl
  exact wX1_allStops_0 hX ⟨Nat.le_refl _, Nat.le_refl _⟩ X N _ _ _ _ _ _ _ I hl hf
/-! SharedTaxis.size(I)I imp=True fuel=True kap=False rt=I thr=True -/
theorem gfX1_118 : ∀ q ∈ ([(1, 0)] : List (Nat × Nat)), GN RX1 118 q := List.forall_mem_cons.mpr ⟨⟨RX2, TX2, 7, _, rfl, in_X2, by decide, q234⟩, fun _ h => by cases h⟩
theorem gfX1_122 : ∀ q ∈ ([(2, 0)] : List (Nat × Nat)), GN RX1 122 q := List.forall_mem_cons.mpr ⟨⟨RX3, TX3, 3, _, rfl, in_X3, by decide, q184⟩, fun _ h => by cases h⟩
theorem gfX1_206 : ∀ q ∈ ([(2, 2)] : List (Nat × Nat)), GN RX1 206 q := List.forall_mem_cons.mpr ⟨⟨RX3, TX3, 3, _, rfl, in_X3, by decide, q189⟩, fun _ h => by cases h⟩
theorem gfX1_146 : ∀ q ∈ ([(1, 6)] : List (Nat × Nat)), GN RX1 146 q := List.forall_mem_cons.mpr ⟨⟨RX2, TX2, 7, _, rfl, in_X2, by decide, q262⟩, fun _ h => by cases h⟩
theorem gfX1_209 : ∀ q ∈ ([(1, 4)] : List (Nat × Nat)), GN RX1 209 q := List.forall_mem_cons.mpr ⟨⟨RX2, TX2, 7, _, rfl, in_X2, by decide, q252⟩, fun _ h => by cases h⟩
theorem lvX1_212 : GoodIn lw_all (wsV RX1 212 RX2 yX2_ridesIn (ws_ yX2_ridesIn cX2_ridesIn 4 (some .int))) := lw_V q1563 q1564 q1565 q114 q1566
theorem hdX1_212 : yX2_ridesIn.cls = RX2 ∧ yX2_ridesIn.cls ≠ "java/lang/invoke/MethodHandle" ∧ yX2_ridesIn.cls ≠ "java/lang/invoke/VarHandle" ∧ (parseMethodDescriptor yX2_ridesIn.desc).map (fun d => d.parameters.length) = some 1 := by decide +kernel
theorem lvX1_216 : GoodIn lw_all (wsV RX1 216 RX1 yX1_allStops (ws_ yX1_allStops cX1_allStops 4 (some .int))) := lw_V q1567 q1569 qs16 q113 q1570
theorem hdX1_216 : yX1_allStops.cls = RX1 ∧ yX1_allStops.cls ≠ "java/lang/invoke/MethodHandle" ∧ yX1_allStops.cls ≠ "java/lang/invoke/VarHandle" ∧ (parseMethodDescriptor yX1_allStops.desc).map (fun d => d.parameters.length) = some 0 := by decide +kernel
theorem gfX1_219 : ∀ q ∈ ([(1, 2)] : List (Nat × Nat)), GN RX1 219 q := List.forall_mem_cons.mpr ⟨⟨RX2, TX2, 7, _, rfl, in_X2, by decide, q244⟩, fun _ h => by cases h⟩
theorem gfX1_222 : ∀ q ∈ ([(1, 3)] : List (Nat × Nat)), GN RX1 222 q := List.forall_mem_cons.mpr ⟨⟨RX2, TX2, 7, _, rfl, in_X2, by decide, q247⟩, fun _ h => by cases h⟩
def fX1_size (N : Nat) (σ : St) (x0 : Nat) (x1 : Int32) : Option ((Int32 ⊕ Nat) × St) := if x1 = 0 then (gR σ x0 [(0, 3)]).bind fun v_1 : Option Nat => (v_1).bind fun a_2 : Nat => (gR σ a_2 [(1, 0)]).bind fun v_3 : Option Nat => (v_3).bind fun a_4 : Nat => (gI σ a_4 [(2, 0)]).bind fun v_5 : Int32 => some (.inl v_5, σ) else if x1 = 1 then (gR σ x0 [(0, 3)]).bind fun v_6 : Option Nat => (v_6).bind fun a_7 : Nat => (gR σ a_7 [(1, 0)]).bind fun v_8 : Option Nat => (v_8).bind fun a_9 : Nat => (gI σ a_9 [(2, 2)]).bind fun v_10 : Int32 => some (.inl v_10, σ) else if x1 = 2 then (gR σ x0 [(0, 3)]).bind fun v_11 : Option Nat => (v_11).bind fun a_12 : Nat => (gR σ a_12 [(1, 5)]).bind fun v_13 : Option Nat => (v_13).bind fun a_14 : Nat => (isC σ a_14 21).bind fun u_15 : Unit => (fJ2_size σ a_14).bind fun v_16 : Int32 => some (.inl v_16, σ) else if x1 = 3 then (gR σ x0 [(0, 3)]).bind fun v_18 : Option Nat => (v_18).bind fun a_19 : Nat => (gR σ a_19 [(1, 6)]).bind fun v_20 : Option Nat => (v_20).bind fun a_21 : Nat => (isC σ a_21 21).bind fun u_22 : Unit => (fJ2_size σ a_21).bind fun v_23 : Int32 => some (.inl v_23, σ) else if x1 = 4 then (gR σ x0 [(0, 3)]).bind fun v_25 : Option Nat => (v_25).bind fun a_26 : Nat => (gI σ a_26 [(1, 4)]).bind fun v_27 : Int32 => some (.inl v_27, σ) else if x1 = 5 then (gR σ x0 [(0, 3)]).bind fun v_28 : Option Nat => (v_28).bind fun a_29 : Nat => (isC σ a_29 1).bind fun u_30 : Unit => (fX2_ridesIn N σ a_29 (0 : Int32)).bind fun v_31 : Int32 => some (.inl v_31, σ) else if x1 = 6 then (isC σ x0 0).bind fun u_33 : Unit => (fX1_allStops N σ x0).bind fun (v_34, σ_35) => some (.inl v_34, σ_35) else if x1 = 7 then (gR σ x0 [(0, 3)]).bind fun v_36 : Option Nat => (v_36).bind fun a_37 : Nat => (gI σ a_37 [(1, 2)]).bind fun v_38 : Int32 => some (.inl v_38, σ) else if x1 = 8 then (gR σ x0 [(0, 3)]).bind fun v_39 : Option Nat => (v_39).bind fun a_40 : Nat => (gI σ a_40 [(1, 3)]).bind fun v_41 : Int32 => some (.inl v_41, σ) else (nH σ 6 (.inr (34, []))).bind fun (q_42a, q_42s) => (isX q_42s q_42a).bind fun u_43 : Unit => some (.inr q_42a, q_42s)
theorem wX1_size_0 {E : EV} {l : Launch} {p : Program} {e : Env} {s : State} {m : MethodId} {args : Array Value} {below : List Frame} {meth : Method} {c : Code} {R : Room} {res : ((Int32 ⊕ Nat) × St)} (hX : XK E) (hR : 6 ≤ R.frames ∧ 89 ≤ R.locals) (X : MX E p s m args meth c cX1_size 2 (some .int) RX1 "size") (XH : MH c []) (hS : l.stackTraces = false) (N : Nat) : ∀ (x0 : Nat) (x1 : Int32) (σ : St) (H : Heap) (locs : List Loc) (cells slots : Nat) (ls : Array Slot), WI E R s σ H locs cells slots → lv_has ls 2 [(0, .ref x0), (1, .int x1)] → fX1_size N σ x0 x1 = some res → W p l e R s m args below meth c H locs cells slots (vx_MQ below (QS E R.cells R.slots (sv (fun v => (some (.int v))) res.1) res.2) (XS E R.cells R.slots (sx res.1) res.2) args s R.cells R.slots (fr E)) (F0 m 0 ls []) := by
  intro x0 x1 σ H locs cells slots ls I hl hf
  obtain ⟨⟨hx, hb, hml, hown, hts⟩, -⟩ := id X
  unfold fX1_size at hf
  refine lv_iload_n hx hb dX1_size_0 rfl (lv_at hl 1 rfl) ?_
  by_cases c_1_0 : x1 = 0
  · have hf := ip c_1_0 hf
    refine lv_tableIn (off := 51) (tgt := 52) hx hb dX1_size_1 (by rw [c_1_0]; decide) (by rw [c_1_0]; decide) (by rw [c_1_0]; rfl) (by decide) ?_
    refine lv_aload_n hx hb dX1_size_52 rfl (lv_at hl 0 rfl) ?_
    obtain ⟨v_1, ev_1, hf⟩ := ob hf
    refine g_get X I gfX1_87 (gR_in ev_1) dX1_size_53 ?_
    obtain ⟨a_2, ea_2, hga_2⟩ := ob hf
    have hla_2 := hl
    have Ia_2 := I
    subst ea_2
    have hf := hga_2
    have hl := hla_2
    have I := Ia_2
    obtain ⟨v_3, ev_3, hf⟩ := ob hf
    refine g_getN hX X I gfX1_118 (gR_in ev_3) dX1_size_56 ?_
    obtain ⟨a_4, ea_4, hga_4⟩ := ob hf
    have hla_4 := hl
    have Ia_4 := I
    subst ea_4
    have hf := hga_4
    have hl := hla_4
    have I := Ia_4
    obtain ⟨v_5, ev_5, hf⟩ := ob hf
    refine g_getN hX X I gfX1_122 (gI_in ev_5) dX1_size_59 ?_
    refine lv_goto (tgt := 164) hx hb dX1_size_62 (by decide) ?_
    cases os hf
    exact x_ret (r_iret X I dX1_size_164)
  · have hf := im c_1_0 hf
    by_cases c_1_1 : x1 = 1
    · have hf := ip c_1_1 hf
      refine lv_tableIn (off := 64) (tgt := 65) hx hb dX1_size_1 (by rw [c_1_1]; decide) (by rw [c_1_1]; decide) (by rw [c_1_1]; rfl) (by decide) ?_
      refine lv_aload_n hx hb dX1_size_65 rfl (lv_at hl 0 rfl) ?_
      obtain ⟨v_6, ev_6, hf⟩ := ob hf
      refine g_get X I gfX1_87 (gR_in ev_6) dX1_size_66 ?_
      obtain ⟨a_7, ea_7, hga_7⟩ := ob hf
      have hla_7 := hl
      have Ia_7 := I
      subst ea_7
      have hf := hga_7
      have hl := hla_7
      have I := Ia_7
      obtain ⟨v_8, ev_8, hf⟩ := ob hf
      refine g_getN hX X I gfX1_118 (gR_in ev_8) dX1_size_69 ?_
      obtain ⟨a_9, ea_9, hga_9⟩ := ob hf
      have hla_9 := hl
      have Ia_9 := I
      subst ea_9
      have hf := hga_9
      have hl := hla_9
      have I := Ia_9
      obtain ⟨v_10, ev_10, hf⟩ := ob hf
      refine g_getN hX X I gfX1_206 (gI_in ev_10) dX1_size_72 ?_
      refine lv_goto (tgt := 164) hx hb dX1_size_75 (by decide) ?_
      cases os hf
      exact x_ret (r_iret X I dX1_size_164)
    · have hf := im c_1_1 hf
      by_cases c_1_2 : x1 = 2
      · have hf := ip c_1_2 hf
        refine lv_tableIn (off := 77) (tgt := 78) hx hb dX1_size_1 (by rw [c_1_2]; decide) (by rw [c_1_2]; decide) (by rw [c_1_2]; rfl) (by decide) ?_
        refine lv_aload_n hx hb dX1_size_78 rfl (lv_at hl 0 rfl) ?_
        obtain ⟨v_11, ev_11, hf⟩ := ob hf
        refine g_get X I gfX1_87 (gR_in ev_11) dX1_size_79 ?_
        obtain ⟨a_12, ea_12, hga_12⟩ := ob hf
        have hla_12 := hl
        have Ia_12 := I
        subst ea_12
        have hf := hga_12
        have hl := hla_12
        have I := Ia_12
        obtain ⟨v_13, ev_13, hf⟩ := ob hf
        refine g_getN hX X I gfX1_133 (gR_in ev_13) dX1_size_82 ?_
        obtain ⟨a_14, ea_14, hga_14⟩ := ob hf
        have hla_14 := hl
        have Ia_14 := I
        subst ea_14
        have hf := hga_14
        have hl := hla_14
        have I := Ia_14
        obtain ⟨u_15, eu_15, hf⟩ := ob hf
        obtain ⟨v_16, ev_16, hf⟩ := ob hf
        refine cg_F (vw := (RJ2, TJ2, 3)) (ci := 21) (r := (some (.int v_16))) (σ' := σ) (rs := [.int v_16]) (rest := []) (As := []) hX X I eu_15 rfl (mJ2_size hX ev_16) lvX1_137_J2 hdX1_137_J2 ⟨Nat.le_trans (Nat.le_of_ble_eq_true rfl) hR.1, Nat.le_trans (Nat.le_of_ble_eq_true rfl) hR.2⟩ rfl hl.1 rfl (Nat.le_of_ble_eq_true rfl) rfl dX1_size_85 (fun H locs cells slots I => ?_)
        refine lv_goto (tgt := 164) hx hb dX1_size_90 (by decide) ?_
        cases os hf
        exact x_ret (r_iret X I dX1_size_164)
      · have hf := im c_1_2 hf
        by_cases c_1_3 : x1 = 3
        · have hf := ip c_1_3 hf
          refine lv_tableIn (off := 92) (tgt := 93) hx hb dX1_size_1 (by rw [c_1_3]; decide) (by rw [c_1_3]; decide) (by rw [c_1_3]; rfl) (by decide) ?_
          refine lv_aload_n hx hb dX1_size_93 rfl (lv_at hl 0 rfl) ?_
          obtain ⟨v_18, ev_18, hf⟩ := ob hf
          refine g_get X I gfX1_87 (gR_in ev_18) dX1_size_94 ?_
          obtain ⟨a_19, ea_19, hga_19⟩ := ob hf
          have hla_19 := hl
          have Ia_19 := I
          subst ea_19
          have hf := hga_19
          have hl := hla_19
          have I := Ia_19
          obtain ⟨v_20, ev_20, hf⟩ := ob hf
          refine g_getN hX X I gfX1_146 (gR_in ev_20) dX1_size_97 ?_
          obtain ⟨a_21, ea_21, hga_21⟩ := ob hf
          have hla_21 := hl
          have Ia_21 := I
          subst ea_21
          have hf := hga_21
          have hl := hla_21
          have I := Ia_21
          obtain ⟨u_22, eu_22, hf⟩ := ob hf
          obtain ⟨v_23, ev_23, hf⟩ := ob hf
          refine cg_F (vw := (RJ2, TJ2, 3)) (ci := 21) (r := (some (.int v_23))) (σ' := σ) (rs := [.int v_23]) (rest := []) (As := []) hX X I eu_22 rfl (mJ2_size hX ev_23) lvX1_137_J2 hdX1_137_J2 ⟨Nat.le_trans (Nat.le_of_ble_eq_true rfl) hR.1, Nat.le_trans (Nat.le_of_ble_eq_true rfl) hR.2⟩ rfl hl.1 rfl (Nat.le_of_ble_eq_true rfl) rfl dX1_size_100 (fun H locs cells slots I => ?_)
          refine lv_goto (tgt := 164) hx hb dX1_size_105 (by decide) ?_
          cases os hf
          exact x_ret (r_iret X I dX1_size_164)
        · have hf := im c_1_3 hf
          by_cases c_1_4 : x1 = 4
          · have hf := ip c_1_4 hf
            refine lv_tableIn (off := 107) (tgt := 108) hx hb dX1_size_1 (by rw [c_1_4]; decide) (by rw [c_1_4]; decide) (by rw [c_1_4]; rfl) (by decide) ?_
            refine lv_aload_n hx hb dX1_size_108 rfl (lv_at hl 0 rfl) ?_
            obtain ⟨v_25, ev_25, hf⟩ := ob hf
            refine g_get X I gfX1_87 (gR_in ev_25) dX1_size_109 ?_
            obtain ⟨a_26, ea_26, hga_26⟩ := ob hf
            have hla_26 := hl
            have Ia_26 := I
            subst ea_26
            have hf := hga_26
            have hl := hla_26
            have I := Ia_26
            obtain ⟨v_27, ev_27, hf⟩ := ob hf
            refine g_getN hX X I gfX1_209 (gI_in ev_27) dX1_size_112 ?_
            refine lv_goto (tgt := 164) hx hb dX1_size_115 (by decide) ?_
            cases os hf
            exact x_ret (r_iret X I dX1_size_164)
          · have hf := im c_1_4 hf
            by_cases c_1_5 : x1 = 5
            · have hf := ip c_1_5 hf
              refine lv_tableIn (off := 117) (tgt := 118) hx hb dX1_size_1 (by rw [c_1_5]; decide) (by rw [c_1_5]; decide) (by rw [c_1_5]; rfl) (by decide) ?_
              refine lv_aload_n hx hb dX1_size_118 rfl (lv_at hl 0 rfl) ?_
              obtain ⟨v_28, ev_28, hf⟩ := ob hf
              refine g_get X I gfX1_87 (gR_in ev_28) dX1_size_119 ?_
              refine lv_iconst (v := 0) hx hb dX1_size_122 (by decide) ?_
              obtain ⟨a_29, ea_29, hga_29⟩ := ob hf
              have hla_29 := hl
              have Ia_29 := I
              subst ea_29
              have hf := hga_29
              have hl := hla_29
              have I := Ia_29
              obtain ⟨u_30, eu_30, hf⟩ := ob hf
              obtain ⟨v_31, ev_31, hf⟩ := ob hf
              refine cg_V (vw := (RX2, TX2, 7)) (ci := 1) (r := (some (.int v_31))) (σ' := σ) (rs := [.int v_31]) (rest := []) (As := [.int (0 : Int32)]) X I eu_30 rfl (mX2_ridesIn hX ev_31) lvX1_212 hdX1_212 ⟨Nat.le_trans (Nat.le_of_ble_eq_true rfl) hR.1, Nat.le_trans (Nat.le_of_ble_eq_true rfl) hR.2⟩ rfl hl.1 rfl (Nat.le_of_ble_eq_true rfl) rfl dX1_size_123 (fun H locs cells slots I => ?_)
              refine lv_goto (tgt := 164) hx hb dX1_size_126 (by decide) ?_
              cases os hf
              exact x_ret (r_iret X I dX1_size_164)
            · have hf := im c_1_5 hf
              by_cases c_1_6 : x1 = 6
              · have hf := ip c_1_6 hf
                refine lv_tableIn (off := 128) (tgt := 129) hx hb dX1_size_1 (by rw [c_1_6]; decide) (by rw [c_1_6]; decide) (by rw [c_1_6]; rfl) (by decide) ?_
                refine lv_aload_n hx hb dX1_size_129 rfl (lv_at hl 0 rfl) ?_
                obtain ⟨u_33, eu_33, hf⟩ := ob hf
                obtain ⟨⟨v_34, σ_35⟩, ev_34, hf⟩ := ob hf
                refine cg_V (vw := (RX1, TX1, 7)) (ci := 0) (r := (some (.int v_34))) (σ' := σ_35) (rs := [.int v_34]) (rest := []) (As := []) X I eu_33 rfl (mX1_allStops hX ev_34) lvX1_216 hdX1_216 ⟨Nat.le_trans (Nat.le_of_ble_eq_true rfl) hR.1, Nat.le_trans (Nat.le_of_ble_eq_true rfl) hR.2⟩ rfl hl.1 rfl (Nat.le_of_ble_eq_true rfl) rfl dX1_size_130 (fun H locs cells slots I => ?_)
                refine lv_goto (tgt := 164) hx hb dX1_size_133 (by decide) ?_
                cases os hf
                exact x_ret (r_iret X I dX1_size_164)
              · have hf := im c_1_6 hf
                by_cases c_1_7 : x1 = 7
                · have hf := ip c_1_7 hf
                  refine lv_tableIn (off := 135) (tgt := 136) hx hb dX1_size_1 (by rw [c_1_7]; decide) (by rw [c_1_7]; decide) (by rw [c_1_7]; rfl) (by decide) ?_
                  refine lv_aload_n hx hb dX1_size_136 rfl (lv_at hl 0 rfl) ?_
                  obtain ⟨v_36, ev_36, hf⟩ := ob hf
                  refine g_get X I gfX1_87 (gR_in ev_36) dX1_size_137 ?_
                  obtain ⟨a_37, ea_37, hga_37⟩ := ob hf
                  have hla_37 := hl
                  have Ia_37 := I
                  subst ea_37
                  have hf := hga_37
                  have hl := hla_37
                  have I := Ia_37
                  obtain ⟨v_38, ev_38, hf⟩ := ob hf
                  refine g_getN hX X I gfX1_219 (gI_in ev_38) dX1_size_140 ?_
                  refine lv_goto (tgt := 164) hx hb dX1_size_143 (by decide) ?_
                  cases os hf
                  exact x_ret (r_iret X I dX1_size_164)
                · have hf := im c_1_7 hf
                  by_cases c_1_8 : x1 = 8
                  · have hf := ip c_1_8 hf
                    refine lv_tableIn (off := 145) (tgt := 146) hx hb dX1_size_1 (by rw [c_1_8]; decide) (by rw [c_1_8]; decide) (by rw [c_1_8]; rfl) (by decide) ?_
                    refine lv_aload_n hx hb dX1_size_146 rfl (lv_at hl 0 rfl) ?_
                    obtain ⟨v_39, ev_39, hf⟩ := ob hf
                    refine g_get X I gfX1_87 (gR_in ev_39) dX1_size_147 ?_
                    obtain ⟨a_40, ea_40, hga_40⟩ := ob hf
                    have hla_40 := hl
                    have Ia_40 := I
                    subst ea_40
                    have hf := hga_40
                    have hl := hla_40
                    have I := Ia_40
                    obtain ⟨v_41, ev_41, hf⟩ := ob hf
                    refine g_getN hX X I gfX1_222 (gI_in ev_41) dX1_size_150 ?_
                    refine lv_goto (tgt := 164) hx hb dX1_size_153 (by decide) ?_
                    cases os hf
                    exact x_ret (r_iret X I dX1_size_164)
                  · have hf := im c_1_8 hf
                    refine lv_tableOut (tgt := 156) hx hb dX1_size_1 (by exact sw_out 0 8 (fun k h1 h2 => by rcases (show k = 0 ∨ k = 1 ∨ k = 2 ∨ k = 3 ∨ k = 4 ∨ k = 5 ∨ k = 6 ∨ k = 7 ∨ k = 8 by omega) with rfl | rfl | rfl | rfl | rfl | rfl | rfl | rfl | rfl; exact c_1_0; exact c_1_1; exact c_1_2; exact c_1_3; exact c_1_4; exact c_1_5; exact c_1_6; exact c_1_7; exact c_1_8)) (by decide) ?_
                    obtain ⟨⟨q_42a, q_42s⟩, eq_42, hf⟩ := ob hf
                    refine x_make (cls := RJ22) (names := xnm) (ik := 1) (ic := 3) hX hS X I rfl (by decide) xnm_fit q415 q148 xat_E22 eq_42 hl.1 ⟨Nat.le_trans (Nat.le_of_ble_eq_true rfl) hR.1, Nat.le_trans (Nat.le_of_ble_eq_true rfl) hR.2⟩ (Nat.le_of_ble_eq_true rfl) dX1_size_156 dX1_size_159 dX1_size_160 (fun H locs cells slots I => ?_)
                    obtain ⟨u_43, eu_43, hf⟩ := ob hf
                    cases os hf
                    exact x_athrow X XH rfl I eu_43 dX1_size_163
theorem mX1_size {E : EV} {l : Launch} {N : Nat} {σ : St} {x0 : Nat} {x1 : Int32} {res : ((Int32 ⊕ Nat) × St)} (hX : XK E) (hS : l.stackTraces = false) (hf : fX1_size N σ x0 x1 = some res) : CX E l yX1_size (ws_ yX1_size cX1_size 2 (some .int)) 6 89 [.ref x0, .int x1] σ (sv (fun v => (some (.int v))) res.1) (sx res.1) res.2 := by
  refine CX.of hX.1 (by decide) rfl rfl (Nat.le_of_ble_eq_true rfl) ?_
  intro p e s m below meth c X XH I ls hl
  exact wX1_size_0 hX ⟨Nat.le_refl _, Nat.le_refl _⟩ X XH hS N _ _ _ _ _ _ _ _ I hl hf
/-! SharedTaxisLaw.size(LSharedTaxis;I[J)I imp=True fuel=True kap=False rt=I thr=False -/
theorem lvX0_15 : GoodIn lw_all (wsV RX0 15 RX1 yX1_size (ws_ yX1_size cX1_size 2 (some .int))) := lw_V q1559 q1560 q1561 q113 q1562
theorem hdX0_15 : yX1_size.cls = RX1 ∧ yX1_size.cls ≠ "java/lang/invoke/MethodHandle" ∧ yX1_size.cls ≠ "java/lang/invoke/VarHandle" ∧ (parseMethodDescriptor yX1_size.desc).map (fun d => d.parameters.length) = some 1 := by decide +kernel
def fX0_size (N : Nat) (σ : St) (x0 : Nat) (x1 : Int32) (x2 : Nat) : Option (Int32 × St) := (isC σ x0 0).bind fun u_1 : Unit => (fX1_size N σ x0 x1).bind fun (v_2, σ_3) => se v_2 (fun v_4 => (sJ σ_3 x2 (0 : Int32) (v_4.toInt64)).bind fun σ_6 : St => some ((0 : Int32), σ_6)) (fun q_5 => (clsX σ_3 q_5).bind fun c_7 : Nat => if c_7 = 34 then some ((1 : Int32), σ_3) else none)
theorem wX0_size_0 {E : EV} {l : Launch} {p : Program} {e : Env} {s : State} {m : MethodId} {args : Array Value} {below : List Frame} {meth : Method} {c : Code} {R : Room} {res : (Int32 × St)} (hX : XK E) (hR : 7 ≤ R.frames ∧ 110 ≤ R.locals) (X : MX E p s m args meth c cX0_size 4 (some .int) RX0 "size") (XH : MH c [(0, 9, 12, 18)]) (hS : l.stackTraces = false) (N : Nat) : ∀ (x0 : Nat) (x1 : Int32) (x2 : Nat) (σ : St) (H : Heap) (locs : List Loc) (cells slots : Nat) (ls : Array Slot), WI E R s σ H locs cells slots → lv_has ls 4 [(0, .ref x0), (1, .int x1), (2, .ref x2)] → fX0_size N σ x0 x1 x2 = some res → W p l e R s m args below meth c H locs cells slots (vx_MQ below (QS E R.cells R.slots (some (some (.int res.1))) res.2) (XS E R.cells R.slots none res.2) args s R.cells R.slots (fr E)) (F0 m 0 ls []) := by
  intro x0 x1 x2 σ H locs cells slots ls I hl hf
  obtain ⟨⟨hx, hb, hml, hown, hts⟩, -⟩ := id X
  unfold fX0_size at hf
  refine lv_aload_n hx hb dX0_size_0 rfl (lv_at hl 2 rfl) ?_
  refine lv_iconst (v := 0) hx hb dX0_size_1 (by decide) ?_
  refine lv_aload_n hx hb dX0_size_2 rfl (lv_at hl 0 rfl) ?_
  refine lv_iload_n hx hb dX0_size_3 rfl (lv_at hl 1 rfl) ?_
  obtain ⟨u_1, eu_1, hf⟩ := ob hf
  obtain ⟨⟨v_2, σ_3⟩, ev_2, hf⟩ := ob hf
  have hgv_2 := hf
  rcases v_2 with v_4 | q_5
  · have hf := se_l hgv_2
    refine cx_ret (r := (some (.int v_4))) (rs := [.int v_4, .int (0 : Int32), .ref x2]) I (xr_V (vw := (RX1, TX1, 7)) (ci := 0) (σ' := σ_3) (rest := [.int (0 : Int32), .ref x2]) (As := [.int x1]) X I eu_1 rfl (mX1_size hX hS ev_2) lvX0_15 hdX0_15 ⟨Nat.le_trans (Nat.le_of_ble_eq_true rfl) hR.1, Nat.le_trans (Nat.le_of_ble_eq_true rfl) hR.2⟩ rfl hl.1 rfl (Nat.le_of_ble_eq_true rfl) dX0_size_4) rfl (fun H locs cells slots I => ?_)
    refine lv_i2l hx hb dX0_size_7 rfl ?_
    obtain ⟨σ_6, eσ_6, hf⟩ := ob hf
    refine g_last X I eσ_6 dX0_size_8 (fun H locs I => ?_)
    refine lv_goto (tgt := 15) hx hb dX0_size_9 (by decide) ?_
    refine lv_iconst (v := 0) hx hb dX0_size_15 (by decide) ?_
    cases os hf
    exact x_ret (r_iret X I dX0_size_16)
  · have hf := se_r hgv_2
    obtain ⟨c_7, ec_7, hf⟩ := ob hf
    refine cx_thr I (xr_V (vw := (RX1, TX1, 7)) (ci := 0) (σ' := σ_3) (rest := [.int (0 : Int32), .ref x2]) (As := [.int x1]) X I eu_1 rfl (mX1_size hX hS ev_2) lvX0_15 hdX0_15 ⟨Nat.le_trans (Nat.le_of_ble_eq_true rfl) hR.1, Nat.le_trans (Nat.le_of_ble_eq_true rfl) hR.2⟩ rfl hl.1 rfl (Nat.le_of_ble_eq_true rfl) dX0_size_4) (fun H locs cells slots I => ?_)
    by_cases cc_7_E22 : c_7 = 34
    · have hf := ip cc_7_E22 hf
      refine x_catch (vw := (RJ22, TJ22, 0)) hX X XH I (cc_7_E22 ▸ ec_7) rfl ((tableOf [(0, 9, 12, 18)]).take 0) _ _ rfl (fun z hz => nomatch hz) rfl (by decide) q1558 q417 ?_
      refine lv_astore_n (lv' := [(3, .ref q_5), (0, .ref x0), (1, .int x1), (2, .ref x2)]) hx hb dX0_size_12 rfl hl (by decide) rfl (fun ls hl => ?_)
      refine lv_iconst (v := 1) hx hb dX0_size_13 (by decide) ?_
      cases os hf
      exact x_ret (r_iret X I dX0_size_14)
    · have hf := im cc_7_E22 hf
      exact nomatch hf
theorem mX0_size {E : EV} {l : Launch} {N : Nat} {σ : St} {x0 : Nat} {x1 : Int32} {x2 : Nat} {res : (Int32 × St)} (hX : XK E) (hS : l.stackTraces = false) (hf : fX0_size N σ x0 x1 x2 = some res) : CX E l yX0_size (wsW_ yX0_size cX0_size 4 (some .int) [(0, 9, 12, 18)]) 7 110 [.ref x0, .int x1, .ref x2] σ (some (some (.int res.1))) none res.2 := by
  refine CX.ofH hX.1 (by decide) rfl rfl (Nat.le_of_ble_eq_true rfl) ?_
  intro p e s m below meth c X XH I ls hl
  exact wX0_size_0 hX ⟨Nat.le_refl _, Nat.le_refl _⟩ X XH hS N _ _ _ _ _ _ _ _ _ I hl hf
/-! SharedTaxis.requireExists(Z)V imp=True fuel=False kap=False rt=None thr=True -/
def fX1_requireExists (σ : St) (x0 : Int32) : Option ((Unit ⊕ Nat) × St) := if x0 = 0 then (nH σ 6 (.inr (34, []))).bind fun (q_1a, q_1s) => (isX q_1s q_1a).bind fun u_2 : Unit => some (.inr q_1a, q_1s) else some (.inl (), σ)
theorem wX1_requireExists_0 {E : EV} {l : Launch} {p : Program} {e : Env} {s : State} {m : MethodId} {args : Array Value} {below : List Frame} {meth : Method} {c : Code} {R : Room} {res : ((Unit ⊕ Nat) × St)} (hX : XK E) (hR : 6 ≤ R.frames ∧ 89 ≤ R.locals) (X : MX E p s m args meth c cX1_requireExists 1 none RX1 "requireExists") (XH : MH c []) (hS : l.stackTraces = false) : ∀ (x0 : Int32) (σ : St) (H : Heap) (locs : List Loc) (cells slots : Nat) (ls : Array Slot), WI E R s σ H locs cells slots → lv_has ls 1 [(0, .int x0)] → fX1_requireExists σ x0 = some res → W p l e R s m args below meth c H locs cells slots (vx_MQ below (QS E R.cells R.slots (sv (fun v => none) res.1) res.2) (XS E R.cells R.slots (sx res.1) res.2) args s R.cells R.slots (fr E)) (F0 m 0 ls []) := by
  intro x0 σ H locs cells slots ls I hl hf
  obtain ⟨⟨hx, hb, hml, hown, hts⟩, -⟩ := id X
  unfold fX1_requireExists at hf
  refine lv_iload_n hx hb dX1_requireExists_0 rfl (lv_at hl 0 rfl) ?_
  refine lv_if_ne (tgt := 12) hx hb dX1_requireExists_1 (by decide) (fun c_1 => ?_) (fun c_1 => ?_)
  · have hf := im c_1 hf
    cases os hf
    exact x_ret (r_vret X I dX1_requireExists_12)
  · have hf := ip c_1 hf
    obtain ⟨⟨q_1a, q_1s⟩, eq_1, hf⟩ := ob hf
    refine x_make (cls := RJ22) (names := xnm) (ik := 1) (ic := 3) hX hS X I rfl (by decide) xnm_fit q415 q148 xat_E22 eq_1 hl.1 ⟨Nat.le_trans (Nat.le_of_ble_eq_true rfl) hR.1, Nat.le_trans (Nat.le_of_ble_eq_true rfl) hR.2⟩ (Nat.le_of_ble_eq_true rfl) dX1_requireExists_4 dX1_requireExists_7 dX1_requireExists_8 (fun H locs cells slots I => ?_)
    obtain ⟨u_2, eu_2, hf⟩ := ob hf
    cases os hf
    exact x_athrow X XH rfl I eu_2 dX1_requireExists_11
theorem mX1_requireExists {E : EV} {l : Launch} {σ : St} {x0 : Int32} {res : ((Unit ⊕ Nat) × St)} (hX : XK E) (hS : l.stackTraces = false) (hf : fX1_requireExists σ x0 = some res) : CX E l yX1_requireExists (ws_ yX1_requireExists cX1_requireExists 1 none) 6 89 [.int x0] σ (sv (fun v => none) res.1) (sx res.1) res.2 := by
  refine CX.of hX.1 (by decide) rfl rfl (Nat.le_of_ble_eq_true rfl) ?_
  intro p e s m below meth c X XH I ls hl
  exact wX1_requireExists_0 hX ⟨Nat.le_refl _, Nat.le_refl _⟩ X XH hS _ _ _ _ _ _ _ I hl hf
/-! SharedTaxis.rule(I)I imp=True fuel=False kap=False rt=I thr=True -/
theorem lvX1_129 : GoodIn lw_all (va_wsS RX1 129 yX1_requireExists (ws_ yX1_requireExists cX1_requireExists 1 none)) := lw_S q1579 q413 q113 q414
theorem hdX1_129 : yX1_requireExists.cls ≠ "java/lang/invoke/MethodHandle" ∧ yX1_requireExists.cls ≠ "java/lang/invoke/VarHandle" ∧ (parseMethodDescriptor yX1_requireExists.desc).map (fun d => d.parameters.length) = some 1 := by decide +kernel
theorem gfX1_227 : ∀ q ∈ ([(1, 1)] : List (Nat × Nat)), GN RX1 227 q := List.forall_mem_cons.mpr ⟨⟨RX2, TX2, 7, _, rfl, in_X2, by decide, q240⟩, fun _ h => by cases h⟩
def fX1_rule (σ : St) (x0 : Nat) (x1 : Int32) : Option ((Int32 ⊕ Nat) × St) := (fX1_inRange σ (x1.toInt64) (0 : Int64) (9 : Int64)).bind fun v_1 : Int32 => (fX1_requireExists σ v_1).bind fun (v_3, σ_4) => se v_3 (fun v_5 => (gR σ_4 x0 [(0, 3)]).bind fun v_7 : Option Nat => (v_7).bind fun a_8 : Nat => (gR σ_4 a_8 [(1, 1)]).bind fun v_9 : Option Nat => (v_9).bind fun a_10 : Nat => (aI σ_4 a_10 0 x1).bind fun v_11 : Int32 => some (.inl v_11, σ_4)) (fun q_6 => (isX σ_4 q_6).bind fun uq_6 : Unit => some (.inr q_6, σ_4))
theorem wX1_rule_0 {E : EV} {l : Launch} {p : Program} {e : Env} {s : State} {m : MethodId} {args : Array Value} {below : List Frame} {meth : Method} {c : Code} {R : Room} {res : ((Int32 ⊕ Nat) × St)} (hX : XK E) (hR : 7 ≤ R.frames ∧ 109 ≤ R.locals) (X : MX E p s m args meth c cX1_rule 2 (some .int) RX1 "rule") (XH : MH c []) (hS : l.stackTraces = false) : ∀ (x0 : Nat) (x1 : Int32) (σ : St) (H : Heap) (locs : List Loc) (cells slots : Nat) (ls : Array Slot), WI E R s σ H locs cells slots → lv_has ls 2 [(0, .ref x0), (1, .int x1)] → fX1_rule σ x0 x1 = some res → W p l e R s m args below meth c H locs cells slots (vx_MQ below (QS E R.cells R.slots (sv (fun v => (some (.int v))) res.1) res.2) (XS E R.cells R.slots (sx res.1) res.2) args s R.cells R.slots (fr E)) (F0 m 0 ls []) := by
  intro x0 x1 σ H locs cells slots ls I hl hf
  obtain ⟨⟨hx, hb, hml, hown, hts⟩, -⟩ := id X
  unfold fX1_rule at hf
  refine lv_iload_n hx hb dX1_rule_0 rfl (lv_at hl 1 rfl) ?_
  refine lv_i2l hx hb dX1_rule_1 rfl ?_
  refine lv_lconst (v := 0) hx hb dX1_rule_2 (by decide) ?_
  refine lv_ldc2 (v := 9) hx hb hown (hts _ q1578) dX1_rule_3 ?_
  obtain ⟨v_1, ev_1, hf⟩ := ob hf
  refine cg_S (r := (some (.int v_1))) (σ' := σ) (rs := [.int v_1]) (rest := []) (As := [.long (x1.toInt64), .long (0 : Int64), .long (9 : Int64)]) X I (mX1_inRange hX ev_1) lvX1_125 hdX1_125 ⟨Nat.le_trans (Nat.le_of_ble_eq_true rfl) hR.1, Nat.le_trans (Nat.le_of_ble_eq_true rfl) hR.2⟩ rfl hl.1 rfl (Nat.le_of_ble_eq_true rfl) rfl dX1_rule_6 (fun H locs cells slots I => ?_)
  obtain ⟨⟨v_3, σ_4⟩, ev_3, hf⟩ := ob hf
  have hgv_3 := hf
  rcases v_3 with v_5 | q_6
  · have hf := se_l hgv_3
    refine cx_ret (r := none) (rs := []) I (xr_S (σ' := σ_4) (rest := []) (As := [.int v_1]) X I (mX1_requireExists hX hS ev_3) lvX1_129 hdX1_129 ⟨Nat.le_trans (Nat.le_of_ble_eq_true rfl) hR.1, Nat.le_trans (Nat.le_of_ble_eq_true rfl) hR.2⟩ rfl hl.1 rfl (Nat.le_of_ble_eq_true rfl) dX1_rule_9) rfl (fun H locs cells slots I => ?_)
    refine lv_aload_n hx hb dX1_rule_12 rfl (lv_at hl 0 rfl) ?_
    obtain ⟨v_7, ev_7, hf⟩ := ob hf
    refine g_get X I gfX1_87 (gR_in ev_7) dX1_rule_13 ?_
    obtain ⟨a_8, ea_8, hga_8⟩ := ob hf
    have hla_8 := hl
    have Ia_8 := I
    subst ea_8
    have hf := hga_8
    have hl := hla_8
    have I := Ia_8
    obtain ⟨v_9, ev_9, hf⟩ := ob hf
    refine g_getN hX X I gfX1_227 (gR_in ev_9) dX1_rule_16 ?_
    refine lv_iload_n hx hb dX1_rule_19 rfl (lv_at hl 1 rfl) ?_
    obtain ⟨a_10, ea_10, hga_10⟩ := ob hf
    have hla_10 := hl
    have Ia_10 := I
    subst ea_10
    have hf := hga_10
    have hl := hla_10
    have I := Ia_10
    obtain ⟨v_11, ev_11, hf⟩ := ob hf
    refine g_iald X I ev_11 dX1_rule_20 ?_
    cases os hf
    exact x_ret (r_iret X I dX1_rule_21)
  · have hf := se_r hgv_3
    obtain ⟨uq_6, eq_6, hf⟩ := ob hf
    cases os hf
    refine cx_thr I (xr_S (σ' := σ_4) (rest := []) (As := [.int v_1]) X I (mX1_requireExists hX hS ev_3) lvX1_129 hdX1_129 ⟨Nat.le_trans (Nat.le_of_ble_eq_true rfl) hR.1, Nat.le_trans (Nat.le_of_ble_eq_true rfl) hR.2⟩ rfl hl.1 rfl (Nat.le_of_ble_eq_true rfl) dX1_rule_9) (fun H locs cells slots I => ?_)
    exact x_out X XH rfl I eq_6
theorem mX1_rule {E : EV} {l : Launch} {σ : St} {x0 : Nat} {x1 : Int32} {res : ((Int32 ⊕ Nat) × St)} (hX : XK E) (hS : l.stackTraces = false) (hf : fX1_rule σ x0 x1 = some res) : CX E l yX1_rule (ws_ yX1_rule cX1_rule 2 (some .int)) 7 109 [.ref x0, .int x1] σ (sv (fun v => (some (.int v))) res.1) (sx res.1) res.2 := by
  refine CX.of hX.1 (by decide) rfl rfl (Nat.le_of_ble_eq_true rfl) ?_
  intro p e s m below meth c X XH I ls hl
  exact wX1_rule_0 hX ⟨Nat.le_refl _, Nat.le_refl _⟩ X XH hS _ _ _ _ _ _ _ _ I hl hf
/-! SharedTaxisLaw.rule(LSharedTaxis;I[J)I imp=True fuel=False kap=False rt=I thr=False -/
theorem lvX0_20 : GoodIn lw_all (wsV RX0 20 RX1 yX1_rule (ws_ yX1_rule cX1_rule 2 (some .int))) := lw_V q1574 q1575 q1576 q113 q1577
theorem hdX0_20 : yX1_rule.cls = RX1 ∧ yX1_rule.cls ≠ "java/lang/invoke/MethodHandle" ∧ yX1_rule.cls ≠ "java/lang/invoke/VarHandle" ∧ (parseMethodDescriptor yX1_rule.desc).map (fun d => d.parameters.length) = some 1 := by decide +kernel
def fX0_rule (σ : St) (x0 : Nat) (x1 : Int32) (x2 : Nat) : Option (Int32 × St) := (isC σ x0 0).bind fun u_1 : Unit => (fX1_rule σ x0 x1).bind fun (v_2, σ_3) => se v_2 (fun v_4 => (sJ σ_3 x2 (0 : Int32) (v_4.toInt64)).bind fun σ_6 : St => some ((0 : Int32), σ_6)) (fun q_5 => (clsX σ_3 q_5).bind fun c_7 : Nat => if c_7 = 34 then some ((1 : Int32), σ_3) else none)
theorem wX0_rule_0 {E : EV} {l : Launch} {p : Program} {e : Env} {s : State} {m : MethodId} {args : Array Value} {below : List Frame} {meth : Method} {c : Code} {R : Room} {res : (Int32 × St)} (hX : XK E) (hR : 8 ≤ R.frames ∧ 130 ≤ R.locals) (X : MX E p s m args meth c cX0_rule 4 (some .int) RX0 "rule") (XH : MH c [(0, 9, 12, 18)]) (hS : l.stackTraces = false) : ∀ (x0 : Nat) (x1 : Int32) (x2 : Nat) (σ : St) (H : Heap) (locs : List Loc) (cells slots : Nat) (ls : Array Slot), WI E R s σ H locs cells slots → lv_has ls 4 [(0, .ref x0), (1, .int x1), (2, .ref x2)] → fX0_rule σ x0 x1 x2 = some res → W p l e R s m args below meth c H locs cells slots (vx_MQ below (QS E R.cells R.slots (some (some (.int res.1))) res.2) (XS E R.cells R.slots none res.2) args s R.cells R.slots (fr E)) (F0 m 0 ls []) := by
  intro x0 x1 x2 σ H locs cells slots ls I hl hf
  obtain ⟨⟨hx, hb, hml, hown, hts⟩, -⟩ := id X
  unfold fX0_rule at hf
  refine lv_aload_n hx hb dX0_rule_0 rfl (lv_at hl 2 rfl) ?_
  refine lv_iconst (v := 0) hx hb dX0_rule_1 (by decide) ?_
  refine lv_aload_n hx hb dX0_rule_2 rfl (lv_at hl 0 rfl) ?_
  refine lv_iload_n hx hb dX0_rule_3 rfl (lv_at hl 1 rfl) ?_
  obtain ⟨u_1, eu_1, hf⟩ := ob hf
  obtain ⟨⟨v_2, σ_3⟩, ev_2, hf⟩ := ob hf
  have hgv_2 := hf
  rcases v_2 with v_4 | q_5
  · have hf := se_l hgv_2
    refine cx_ret (r := (some (.int v_4))) (rs := [.int v_4, .int (0 : Int32), .ref x2]) I (xr_V (vw := (RX1, TX1, 7)) (ci := 0) (σ' := σ_3) (rest := [.int (0 : Int32), .ref x2]) (As := [.int x1]) X I eu_1 rfl (mX1_rule hX hS ev_2) lvX0_20 hdX0_20 ⟨Nat.le_trans (Nat.le_of_ble_eq_true rfl) hR.1, Nat.le_trans (Nat.le_of_ble_eq_true rfl) hR.2⟩ rfl hl.1 rfl (Nat.le_of_ble_eq_true rfl) dX0_rule_4) rfl (fun H locs cells slots I => ?_)
    refine lv_i2l hx hb dX0_rule_7 rfl ?_
    obtain ⟨σ_6, eσ_6, hf⟩ := ob hf
    refine g_last X I eσ_6 dX0_rule_8 (fun H locs I => ?_)
    refine lv_goto (tgt := 15) hx hb dX0_rule_9 (by decide) ?_
    refine lv_iconst (v := 0) hx hb dX0_rule_15 (by decide) ?_
    cases os hf
    exact x_ret (r_iret X I dX0_rule_16)
  · have hf := se_r hgv_2
    obtain ⟨c_7, ec_7, hf⟩ := ob hf
    refine cx_thr I (xr_V (vw := (RX1, TX1, 7)) (ci := 0) (σ' := σ_3) (rest := [.int (0 : Int32), .ref x2]) (As := [.int x1]) X I eu_1 rfl (mX1_rule hX hS ev_2) lvX0_20 hdX0_20 ⟨Nat.le_trans (Nat.le_of_ble_eq_true rfl) hR.1, Nat.le_trans (Nat.le_of_ble_eq_true rfl) hR.2⟩ rfl hl.1 rfl (Nat.le_of_ble_eq_true rfl) dX0_rule_4) (fun H locs cells slots I => ?_)
    by_cases cc_7_E22 : c_7 = 34
    · have hf := ip cc_7_E22 hf
      refine x_catch (vw := (RJ22, TJ22, 0)) hX X XH I (cc_7_E22 ▸ ec_7) rfl ((tableOf [(0, 9, 12, 18)]).take 0) _ _ rfl (fun z hz => nomatch hz) rfl (by decide) q1558 q417 ?_
      refine lv_astore_n (lv' := [(3, .ref q_5), (0, .ref x0), (1, .int x1), (2, .ref x2)]) hx hb dX0_rule_12 rfl hl (by decide) rfl (fun ls hl => ?_)
      refine lv_iconst (v := 1) hx hb dX0_rule_13 (by decide) ?_
      cases os hf
      exact x_ret (r_iret X I dX0_rule_14)
    · have hf := im cc_7_E22 hf
      exact nomatch hf
theorem mX0_rule {E : EV} {l : Launch} {σ : St} {x0 : Nat} {x1 : Int32} {x2 : Nat} {res : (Int32 × St)} (hX : XK E) (hS : l.stackTraces = false) (hf : fX0_rule σ x0 x1 x2 = some res) : CX E l yX0_rule (wsW_ yX0_rule cX0_rule 4 (some .int) [(0, 9, 12, 18)]) 8 130 [.ref x0, .int x1, .ref x2] σ (some (some (.int res.1))) none res.2 := by
  refine CX.ofH hX.1 (by decide) rfl rfl (Nat.le_of_ble_eq_true rfl) ?_
  intro p e s m below meth c X XH I ls hl
  exact wX0_rule_0 hX ⟨Nat.le_refl _, Nat.le_refl _⟩ X XH hS _ _ _ _ _ _ _ _ _ I hl hf
/-! SharedTaxis.requireZone(I)V imp=True fuel=False kap=False rt=None thr=True -/
def fX1_requireZone (σ : St) (x0 : Nat) (x1 : Int32) : Option ((Unit ⊕ Nat) × St) := (gR σ x0 [(0, 3)]).bind fun v_1 : Option Nat => (v_1).bind fun a_2 : Nat => (gR σ a_2 [(1, 0)]).bind fun v_3 : Option Nat => (v_3).bind fun a_4 : Nat => (gI σ a_4 [(2, 0)]).bind fun v_5 : Int32 => (fX1_inRange σ (x1.toInt64) (0 : Int64) ((v_5 - (1 : Int32)).toInt64)).bind fun v_6 : Int32 => (fX1_requireExists σ v_6).bind fun (v_8, σ_9) => se v_8 (fun v_10 => some (.inl (), σ_9)) (fun q_11 => (isX σ_9 q_11).bind fun uq_11 : Unit => some (.inr q_11, σ_9))
theorem wX1_requireZone_0 {E : EV} {l : Launch} {p : Program} {e : Env} {s : State} {m : MethodId} {args : Array Value} {below : List Frame} {meth : Method} {c : Code} {R : Room} {res : ((Unit ⊕ Nat) × St)} (hX : XK E) (hR : 7 ≤ R.frames ∧ 109 ≤ R.locals) (X : MX E p s m args meth c cX1_requireZone 2 none RX1 "requireZone") (XH : MH c []) (hS : l.stackTraces = false) : ∀ (x0 : Nat) (x1 : Int32) (σ : St) (H : Heap) (locs : List Loc) (cells slots : Nat) (ls : Array Slot), WI E R s σ H locs cells slots → lv_has ls 2 [(0, .ref x0), (1, .int x1)] → fX1_requireZone σ x0 x1 = some res → W p l e R s m args below meth c H locs cells slots (vx_MQ below (QS E R.cells R.slots (sv (fun v => none) res.1) res.2) (XS E R.cells R.slots (sx res.1) res.2) args s R.cells R.slots (fr E)) (F0 m 0 ls []) := by
  intro x0 x1 σ H locs cells slots ls I hl hf
  obtain ⟨⟨hx, hb, hml, hown, hts⟩, -⟩ := id X
  unfold fX1_requireZone at hf
  refine lv_iload_n hx hb dX1_requireZone_0 rfl (lv_at hl 1 rfl) ?_
  refine lv_i2l hx hb dX1_requireZone_1 rfl ?_
  refine lv_lconst (v := 0) hx hb dX1_requireZone_2 (by decide) ?_
  refine lv_aload_n hx hb dX1_requireZone_3 rfl (lv_at hl 0 rfl) ?_
  obtain ⟨v_1, ev_1, hf⟩ := ob hf
  refine g_get X I gfX1_87 (gR_in ev_1) dX1_requireZone_4 ?_
  obtain ⟨a_2, ea_2, hga_2⟩ := ob hf
  have hla_2 := hl
  have Ia_2 := I
  subst ea_2
  have hf := hga_2
  have hl := hla_2
  have I := Ia_2
  obtain ⟨v_3, ev_3, hf⟩ := ob hf
  refine g_getN hX X I gfX1_118 (gR_in ev_3) dX1_requireZone_7 ?_
  obtain ⟨a_4, ea_4, hga_4⟩ := ob hf
  have hla_4 := hl
  have Ia_4 := I
  subst ea_4
  have hf := hga_4
  have hl := hla_4
  have I := Ia_4
  obtain ⟨v_5, ev_5, hf⟩ := ob hf
  refine g_getN hX X I gfX1_122 (gI_in ev_5) dX1_requireZone_10 ?_
  refine lv_iconst (v := 1) hx hb dX1_requireZone_13 (by decide) ?_
  refine lv_isub hx hb dX1_requireZone_14 ?_
  refine lv_i2l hx hb dX1_requireZone_15 rfl ?_
  obtain ⟨v_6, ev_6, hf⟩ := ob hf
  refine cg_S (r := (some (.int v_6))) (σ' := σ) (rs := [.int v_6]) (rest := []) (As := [.long (x1.toInt64), .long (0 : Int64), .long ((v_5 - (1 : Int32)).toInt64)]) X I (mX1_inRange hX ev_6) lvX1_125 hdX1_125 ⟨Nat.le_trans (Nat.le_of_ble_eq_true rfl) hR.1, Nat.le_trans (Nat.le_of_ble_eq_true rfl) hR.2⟩ rfl hl.1 rfl (Nat.le_of_ble_eq_true rfl) rfl dX1_requireZone_16 (fun H locs cells slots I => ?_)
  obtain ⟨⟨v_8, σ_9⟩, ev_8, hf⟩ := ob hf
  have hgv_8 := hf
  rcases v_8 with v_10 | q_11
  · have hf := se_l hgv_8
    refine cx_ret (r := none) (rs := []) I (xr_S (σ' := σ_9) (rest := []) (As := [.int v_6]) X I (mX1_requireExists hX hS ev_8) lvX1_129 hdX1_129 ⟨Nat.le_trans (Nat.le_of_ble_eq_true rfl) hR.1, Nat.le_trans (Nat.le_of_ble_eq_true rfl) hR.2⟩ rfl hl.1 rfl (Nat.le_of_ble_eq_true rfl) dX1_requireZone_19) rfl (fun H locs cells slots I => ?_)
    cases os hf
    exact x_ret (r_vret X I dX1_requireZone_22)
  · have hf := se_r hgv_8
    obtain ⟨uq_11, eq_11, hf⟩ := ob hf
    cases os hf
    refine cx_thr I (xr_S (σ' := σ_9) (rest := []) (As := [.int v_6]) X I (mX1_requireExists hX hS ev_8) lvX1_129 hdX1_129 ⟨Nat.le_trans (Nat.le_of_ble_eq_true rfl) hR.1, Nat.le_trans (Nat.le_of_ble_eq_true rfl) hR.2⟩ rfl hl.1 rfl (Nat.le_of_ble_eq_true rfl) dX1_requireZone_19) (fun H locs cells slots I => ?_)
    exact x_out X XH rfl I eq_11
theorem mX1_requireZone {E : EV} {l : Launch} {σ : St} {x0 : Nat} {x1 : Int32} {res : ((Unit ⊕ Nat) × St)} (hX : XK E) (hS : l.stackTraces = false) (hf : fX1_requireZone σ x0 x1 = some res) : CX E l yX1_requireZone (ws_ yX1_requireZone cX1_requireZone 2 none) 7 109 [.ref x0, .int x1] σ (sv (fun v => none) res.1) (sx res.1) res.2 := by
  refine CX.of hX.1 (by decide) rfl rfl (Nat.le_of_ble_eq_true rfl) ?_
  intro p e s m below meth c X XH I ls hl
  exact wX1_requireZone_0 hX ⟨Nat.le_refl _, Nat.le_refl _⟩ X XH hS _ _ _ _ _ _ _ _ I hl hf
/-! SharedTaxis.minutes(II)I imp=True fuel=False kap=False rt=I thr=True -/
theorem lvX1_231 : GoodIn lw_all (wsV RX1 231 RX1 yX1_requireZone (ws_ yX1_requireZone cX1_requireZone 2 none)) := lw_V q1587 q1589 qs17 q113 q1590
theorem hdX1_231 : yX1_requireZone.cls = RX1 ∧ yX1_requireZone.cls ≠ "java/lang/invoke/MethodHandle" ∧ yX1_requireZone.cls ≠ "java/lang/invoke/VarHandle" ∧ (parseMethodDescriptor yX1_requireZone.desc).map (fun d => d.parameters.length) = some 1 := by decide +kernel
theorem gfX1_234 : ∀ q ∈ ([(2, 1)] : List (Nat × Nat)), GN RX1 234 q := List.forall_mem_cons.mpr ⟨⟨RX3, TX3, 3, _, rfl, in_X3, by decide, q187⟩, fun _ h => by cases h⟩
def fX1_minutes (σ : St) (x0 : Nat) (x1 : Int32) (x2 : Int32) : Option ((Int32 ⊕ Nat) × St) := (isC σ x0 0).bind fun u_1 : Unit => (fX1_requireZone σ x0 x1).bind fun (v_2, σ_3) => se v_2 (fun v_4 => (isC σ_3 x0 0).bind fun u_6 : Unit => (fX1_requireZone σ_3 x0 x2).bind fun (v_7, σ_8) => se v_7 (fun v_9 => (gR σ_8 x0 [(0, 3)]).bind fun v_11 : Option Nat => (v_11).bind fun a_12 : Nat => (gR σ_8 a_12 [(1, 0)]).bind fun v_13 : Option Nat => (v_13).bind fun a_14 : Nat => (gR σ_8 a_14 [(2, 1)]).bind fun v_15 : Option Nat => (v_15).bind fun a_16 : Nat => (aR σ_8 a_16 3 x1).bind fun v_17 : Option Nat => (v_17).bind fun a_18 : Nat => (aI σ_8 a_18 0 x2).bind fun v_19 : Int32 => some (.inl v_19, σ_8)) (fun q_10 => (isX σ_8 q_10).bind fun uq_10 : Unit => some (.inr q_10, σ_8))) (fun q_5 => (isX σ_3 q_5).bind fun uq_5 : Unit => some (.inr q_5, σ_3))
theorem wX1_minutes_0 {E : EV} {l : Launch} {p : Program} {e : Env} {s : State} {m : MethodId} {args : Array Value} {below : List Frame} {meth : Method} {c : Code} {R : Room} {res : ((Int32 ⊕ Nat) × St)} (hX : XK E) (hR : 8 ≤ R.frames ∧ 130 ≤ R.locals) (X : MX E p s m args meth c cX1_minutes 3 (some .int) RX1 "minutes") (XH : MH c []) (hS : l.stackTraces = false) : ∀ (x0 : Nat) (x1 : Int32) (x2 : Int32) (σ : St) (H : Heap) (locs : List Loc) (cells slots : Nat) (ls : Array Slot), WI E R s σ H locs cells slots → lv_has ls 3 [(0, .ref x0), (1, .int x1), (2, .int x2)] → fX1_minutes σ x0 x1 x2 = some res → W p l e R s m args below meth c H locs cells slots (vx_MQ below (QS E R.cells R.slots (sv (fun v => (some (.int v))) res.1) res.2) (XS E R.cells R.slots (sx res.1) res.2) args s R.cells R.slots (fr E)) (F0 m 0 ls []) := by
  intro x0 x1 x2 σ H locs cells slots ls I hl hf
  obtain ⟨⟨hx, hb, hml, hown, hts⟩, -⟩ := id X
  unfold fX1_minutes at hf
  refine lv_aload_n hx hb dX1_minutes_0 rfl (lv_at hl 0 rfl) ?_
  refine lv_iload_n hx hb dX1_minutes_1 rfl (lv_at hl 1 rfl) ?_
  obtain ⟨u_1, eu_1, hf⟩ := ob hf
  obtain ⟨⟨v_2, σ_3⟩, ev_2, hf⟩ := ob hf
  have hgv_2 := hf
  rcases v_2 with v_4 | q_5
  · have hf := se_l hgv_2
    refine cx_ret (r := none) (rs := []) I (xr_V (vw := (RX1, TX1, 7)) (ci := 0) (σ' := σ_3) (rest := []) (As := [.int x1]) X I eu_1 rfl (mX1_requireZone hX hS ev_2) lvX1_231 hdX1_231 ⟨Nat.le_trans (Nat.le_of_ble_eq_true rfl) hR.1, Nat.le_trans (Nat.le_of_ble_eq_true rfl) hR.2⟩ rfl hl.1 rfl (Nat.le_of_ble_eq_true rfl) dX1_minutes_2) rfl (fun H locs cells slots I => ?_)
    refine lv_aload_n hx hb dX1_minutes_5 rfl (lv_at hl 0 rfl) ?_
    refine lv_iload_n hx hb dX1_minutes_6 rfl (lv_at hl 2 rfl) ?_
    obtain ⟨u_6, eu_6, hf⟩ := ob hf
    obtain ⟨⟨v_7, σ_8⟩, ev_7, hf⟩ := ob hf
    have hgv_7 := hf
    rcases v_7 with v_9 | q_10
    · have hf := se_l hgv_7
      refine cx_ret (r := none) (rs := []) I (xr_V (vw := (RX1, TX1, 7)) (ci := 0) (σ' := σ_8) (rest := []) (As := [.int x2]) X I eu_6 rfl (mX1_requireZone hX hS ev_7) lvX1_231 hdX1_231 ⟨Nat.le_trans (Nat.le_of_ble_eq_true rfl) hR.1, Nat.le_trans (Nat.le_of_ble_eq_true rfl) hR.2⟩ rfl hl.1 rfl (Nat.le_of_ble_eq_true rfl) dX1_minutes_7) rfl (fun H locs cells slots I => ?_)
      refine lv_aload_n hx hb dX1_minutes_10 rfl (lv_at hl 0 rfl) ?_
      obtain ⟨v_11, ev_11, hf⟩ := ob hf
      refine g_get X I gfX1_87 (gR_in ev_11) dX1_minutes_11 ?_
      obtain ⟨a_12, ea_12, hga_12⟩ := ob hf
      have hla_12 := hl
      have Ia_12 := I
      subst ea_12
      have hf := hga_12
      have hl := hla_12
      have I := Ia_12
      obtain ⟨v_13, ev_13, hf⟩ := ob hf
      refine g_getN hX X I gfX1_118 (gR_in ev_13) dX1_minutes_14 ?_
      obtain ⟨a_14, ea_14, hga_14⟩ := ob hf
      have hla_14 := hl
      have Ia_14 := I
      subst ea_14
      have hf := hga_14
      have hl := hla_14
      have I := Ia_14
      obtain ⟨v_15, ev_15, hf⟩ := ob hf
      refine g_getN hX X I gfX1_234 (gR_in ev_15) dX1_minutes_17 ?_
      refine lv_iload_n hx hb dX1_minutes_20 rfl (lv_at hl 1 rfl) ?_
      obtain ⟨a_16, ea_16, hga_16⟩ := ob hf
      have hla_16 := hl
      have Ia_16 := I
      subst ea_16
      have hf := hga_16
      have hl := hla_16
      have I := Ia_16
      obtain ⟨v_17, ev_17, hf⟩ := ob hf
      refine g_aald X I (by decide) rfl ev_17 dX1_minutes_21 ?_
      refine lv_iload_n hx hb dX1_minutes_22 rfl (lv_at hl 2 rfl) ?_
      obtain ⟨a_18, ea_18, hga_18⟩ := ob hf
      have hla_18 := hl
      have Ia_18 := I
      subst ea_18
      have hf := hga_18
      have hl := hla_18
      have I := Ia_18
      obtain ⟨v_19, ev_19, hf⟩ := ob hf
      refine g_iald X I ev_19 dX1_minutes_23 ?_
      cases os hf
      exact x_ret (r_iret X I dX1_minutes_24)
    · have hf := se_r hgv_7
      obtain ⟨uq_10, eq_10, hf⟩ := ob hf
      cases os hf
      refine cx_thr I (xr_V (vw := (RX1, TX1, 7)) (ci := 0) (σ' := σ_8) (rest := []) (As := [.int x2]) X I eu_6 rfl (mX1_requireZone hX hS ev_7) lvX1_231 hdX1_231 ⟨Nat.le_trans (Nat.le_of_ble_eq_true rfl) hR.1, Nat.le_trans (Nat.le_of_ble_eq_true rfl) hR.2⟩ rfl hl.1 rfl (Nat.le_of_ble_eq_true rfl) dX1_minutes_7) (fun H locs cells slots I => ?_)
      exact x_out X XH rfl I eq_10
  · have hf := se_r hgv_2
    obtain ⟨uq_5, eq_5, hf⟩ := ob hf
    cases os hf
    refine cx_thr I (xr_V (vw := (RX1, TX1, 7)) (ci := 0) (σ' := σ_3) (rest := []) (As := [.int x1]) X I eu_1 rfl (mX1_requireZone hX hS ev_2) lvX1_231 hdX1_231 ⟨Nat.le_trans (Nat.le_of_ble_eq_true rfl) hR.1, Nat.le_trans (Nat.le_of_ble_eq_true rfl) hR.2⟩ rfl hl.1 rfl (Nat.le_of_ble_eq_true rfl) dX1_minutes_2) (fun H locs cells slots I => ?_)
    exact x_out X XH rfl I eq_5
theorem mX1_minutes {E : EV} {l : Launch} {σ : St} {x0 : Nat} {x1 : Int32} {x2 : Int32} {res : ((Int32 ⊕ Nat) × St)} (hX : XK E) (hS : l.stackTraces = false) (hf : fX1_minutes σ x0 x1 x2 = some res) : CX E l yX1_minutes (ws_ yX1_minutes cX1_minutes 3 (some .int)) 8 130 [.ref x0, .int x1, .int x2] σ (sv (fun v => (some (.int v))) res.1) (sx res.1) res.2 := by
  refine CX.of hX.1 (by decide) rfl rfl (Nat.le_of_ble_eq_true rfl) ?_
  intro p e s m below meth c X XH I ls hl
  exact wX1_minutes_0 hX ⟨Nat.le_refl _, Nat.le_refl _⟩ X XH hS _ _ _ _ _ _ _ _ _ I hl hf
/-! SharedTaxisLaw.minutes(LSharedTaxis;II[J)I imp=True fuel=False kap=False rt=I thr=False -/
theorem lvX0_23 : GoodIn lw_all (wsV RX0 23 RX1 yX1_minutes (ws_ yX1_minutes cX1_minutes 3 (some .int))) := lw_V q1583 q1584 q1585 q113 q1586
theorem hdX0_23 : yX1_minutes.cls = RX1 ∧ yX1_minutes.cls ≠ "java/lang/invoke/MethodHandle" ∧ yX1_minutes.cls ≠ "java/lang/invoke/VarHandle" ∧ (parseMethodDescriptor yX1_minutes.desc).map (fun d => d.parameters.length) = some 2 := by decide +kernel
def fX0_minutes (σ : St) (x0 : Nat) (x1 : Int32) (x2 : Int32) (x3 : Nat) : Option (Int32 × St) := (isC σ x0 0).bind fun u_1 : Unit => (fX1_minutes σ x0 x1 x2).bind fun (v_2, σ_3) => se v_2 (fun v_4 => (sJ σ_3 x3 (0 : Int32) (v_4.toInt64)).bind fun σ_6 : St => some ((0 : Int32), σ_6)) (fun q_5 => (clsX σ_3 q_5).bind fun c_7 : Nat => if c_7 = 34 then some ((1 : Int32), σ_3) else none)
theorem wX0_minutes_0 {E : EV} {l : Launch} {p : Program} {e : Env} {s : State} {m : MethodId} {args : Array Value} {below : List Frame} {meth : Method} {c : Code} {R : Room} {res : (Int32 × St)} (hX : XK E) (hR : 9 ≤ R.frames ∧ 152 ≤ R.locals) (X : MX E p s m args meth c cX0_minutes 5 (some .int) RX0 "minutes") (XH : MH c [(0, 10, 13, 18)]) (hS : l.stackTraces = false) : ∀ (x0 : Nat) (x1 : Int32) (x2 : Int32) (x3 : Nat) (σ : St) (H : Heap) (locs : List Loc) (cells slots : Nat) (ls : Array Slot), WI E R s σ H locs cells slots → lv_has ls 5 [(0, .ref x0), (1, .int x1), (2, .int x2), (3, .ref x3)] → fX0_minutes σ x0 x1 x2 x3 = some res → W p l e R s m args below meth c H locs cells slots (vx_MQ below (QS E R.cells R.slots (some (some (.int res.1))) res.2) (XS E R.cells R.slots none res.2) args s R.cells R.slots (fr E)) (F0 m 0 ls []) := by
  intro x0 x1 x2 x3 σ H locs cells slots ls I hl hf
  obtain ⟨⟨hx, hb, hml, hown, hts⟩, -⟩ := id X
  unfold fX0_minutes at hf
  refine lv_aload_n hx hb dX0_minutes_0 rfl (lv_at hl 3 rfl) ?_
  refine lv_iconst (v := 0) hx hb dX0_minutes_1 (by decide) ?_
  refine lv_aload_n hx hb dX0_minutes_2 rfl (lv_at hl 0 rfl) ?_
  refine lv_iload_n hx hb dX0_minutes_3 rfl (lv_at hl 1 rfl) ?_
  refine lv_iload_n hx hb dX0_minutes_4 rfl (lv_at hl 2 rfl) ?_
  obtain ⟨u_1, eu_1, hf⟩ := ob hf
  obtain ⟨⟨v_2, σ_3⟩, ev_2, hf⟩ := ob hf
  have hgv_2 := hf
  rcases v_2 with v_4 | q_5
  · have hf := se_l hgv_2
    refine cx_ret (r := (some (.int v_4))) (rs := [.int v_4, .int (0 : Int32), .ref x3]) I (xr_V (vw := (RX1, TX1, 7)) (ci := 0) (σ' := σ_3) (rest := [.int (0 : Int32), .ref x3]) (As := [.int x1, .int x2]) X I eu_1 rfl (mX1_minutes hX hS ev_2) lvX0_23 hdX0_23 ⟨Nat.le_trans (Nat.le_of_ble_eq_true rfl) hR.1, Nat.le_trans (Nat.le_of_ble_eq_true rfl) hR.2⟩ rfl hl.1 rfl (Nat.le_of_ble_eq_true rfl) dX0_minutes_5) rfl (fun H locs cells slots I => ?_)
    refine lv_i2l hx hb dX0_minutes_8 rfl ?_
    obtain ⟨σ_6, eσ_6, hf⟩ := ob hf
    refine g_last X I eσ_6 dX0_minutes_9 (fun H locs I => ?_)
    refine lv_goto (tgt := 17) hx hb dX0_minutes_10 (by decide) ?_
    refine lv_iconst (v := 0) hx hb dX0_minutes_17 (by decide) ?_
    cases os hf
    exact x_ret (r_iret X I dX0_minutes_18)
  · have hf := se_r hgv_2
    obtain ⟨c_7, ec_7, hf⟩ := ob hf
    refine cx_thr I (xr_V (vw := (RX1, TX1, 7)) (ci := 0) (σ' := σ_3) (rest := [.int (0 : Int32), .ref x3]) (As := [.int x1, .int x2]) X I eu_1 rfl (mX1_minutes hX hS ev_2) lvX0_23 hdX0_23 ⟨Nat.le_trans (Nat.le_of_ble_eq_true rfl) hR.1, Nat.le_trans (Nat.le_of_ble_eq_true rfl) hR.2⟩ rfl hl.1 rfl (Nat.le_of_ble_eq_true rfl) dX0_minutes_5) (fun H locs cells slots I => ?_)
    by_cases cc_7_E22 : c_7 = 34
    · have hf := ip cc_7_E22 hf
      refine x_catch (vw := (RJ22, TJ22, 0)) hX X XH I (cc_7_E22 ▸ ec_7) rfl ((tableOf [(0, 10, 13, 18)]).take 0) _ _ rfl (fun z hz => nomatch hz) rfl (by decide) q1558 q417 ?_
      refine lv_astore (lv' := [(4, .ref q_5), (0, .ref x0), (1, .int x1), (2, .int x2), (3, .ref x3)]) hx hb dX0_minutes_13 hl (by decide) rfl (fun ls hl => ?_)
      refine lv_iconst (v := 1) hx hb dX0_minutes_15 (by decide) ?_
      cases os hf
      exact x_ret (r_iret X I dX0_minutes_16)
    · have hf := im cc_7_E22 hf
      exact nomatch hf
theorem mX0_minutes {E : EV} {l : Launch} {σ : St} {x0 : Nat} {x1 : Int32} {x2 : Int32} {x3 : Nat} {res : (Int32 × St)} (hX : XK E) (hS : l.stackTraces = false) (hf : fX0_minutes σ x0 x1 x2 x3 = some res) : CX E l yX0_minutes (wsW_ yX0_minutes cX0_minutes 5 (some .int) [(0, 10, 13, 18)]) 9 152 [.ref x0, .int x1, .int x2, .ref x3] σ (some (some (.int res.1))) none res.2 := by
  refine CX.ofH hX.1 (by decide) rfl rfl (Nat.le_of_ble_eq_true rfl) ?_
  intro p e s m below meth c X XH I ls hl
  exact wX0_minutes_0 hX ⟨Nat.le_refl _, Nat.le_refl _⟩ X XH hS _ _ _ _ _ _ _ _ _ _ I hl hf
/-! SharedTaxis.taxiAt(I)LSharedTaxis$Taxi; imp=True fuel=False kap=False rt=N thr=True -/
theorem lvX1_140_J2 : GoodIn lw_all (va_wsF RX1 140 RJ2 ⟨"java/util/List", "get", "(I)Ljava/lang/Object;"⟩ yJ2_get (ws_ yJ2_get cJ2_get 2 (some (.object "java/lang/Object")))) ∧ (RJ2, ⟨"java/util/List", "get", "(I)Ljava/lang/Object;"⟩, yJ2_get) ∈ FWL := ⟨lw_good (List.forall_mem_cons.mpr ⟨q1603, List.forall_mem_cons.mpr ⟨q489, List.forall_mem_cons.mpr ⟨q491, List.forall_mem_cons.mpr ⟨q118, fun w h => (lw_meth q493 w h).1⟩⟩⟩⟩), List.mem_of_getElem? (i := 10) rfl⟩
theorem hdX1_140_J2 : (⟨"java/util/List", "get", "(I)Ljava/lang/Object;"⟩ : MethodName).cls ≠ "java/lang/invoke/MethodHandle" ∧ (⟨"java/util/List", "get", "(I)Ljava/lang/Object;"⟩ : MethodName).cls ≠ "java/lang/invoke/VarHandle" ∧ (parseMethodDescriptor (⟨"java/util/List", "get", "(I)Ljava/lang/Object;"⟩ : MethodName).desc).map (fun d => d.parameters.length) = some 1 := by decide +kernel
def fX1_taxiAt (σ : St) (x0 : Nat) (x1 : Int32) : Option ((Nat ⊕ Nat) × St) := (gR σ x0 [(0, 3)]).bind fun v_1 : Option Nat => (v_1).bind fun a_2 : Nat => (gR σ a_2 [(1, 5)]).bind fun v_3 : Option Nat => (v_3).bind fun a_4 : Nat => (isC σ a_4 21).bind fun u_5 : Unit => (fJ2_size σ a_4).bind fun v_6 : Int32 => (fX1_inRange σ (x1.toInt64) (0 : Int64) ((v_6 - (1 : Int32)).toInt64)).bind fun v_8 : Int32 => (fX1_requireExists σ v_8).bind fun (v_10, σ_11) => se v_10 (fun v_12 => (gR σ_11 x0 [(0, 3)]).bind fun v_14 : Option Nat => (v_14).bind fun a_15 : Nat => (gR σ_11 a_15 [(1, 5)]).bind fun v_16 : Option Nat => (v_16).bind fun a_17 : Nat => (isC σ_11 a_17 21).bind fun u_18 : Unit => (fJ2_get σ_11 a_17 x1).bind fun v_19 : Option Nat => (v_19).bind fun a_21 : Nat => (isC σ_11 a_21 10).bind fun u_22 : Unit => some (.inl (a_21), σ_11)) (fun q_13 => (isX σ_11 q_13).bind fun uq_13 : Unit => some (.inr q_13, σ_11))
theorem wX1_taxiAt_0 {E : EV} {l : Launch} {p : Program} {e : Env} {s : State} {m : MethodId} {args : Array Value} {below : List Frame} {meth : Method} {c : Code} {R : Room} {res : ((Nat ⊕ Nat) × St)} (hX : XK E) (hR : 7 ≤ R.frames ∧ 109 ≤ R.locals) (X : MX E p s m args meth c cX1_taxiAt 2 (some (.object "SharedTaxis$Taxi")) RX1 "taxiAt") (XH : MH c []) (hS : l.stackTraces = false) : ∀ (x0 : Nat) (x1 : Int32) (σ : St) (H : Heap) (locs : List Loc) (cells slots : Nat) (ls : Array Slot), WI E R s σ H locs cells slots → lv_has ls 2 [(0, .ref x0), (1, .int x1)] → fX1_taxiAt σ x0 x1 = some res → W p l e R s m args below meth c H locs cells slots (vx_MQ below (QS E R.cells R.slots (sv (fun v => (some (.ref v))) res.1) res.2) (XS E R.cells R.slots (sx res.1) res.2) args s R.cells R.slots (fr E)) (F0 m 0 ls []) := by
  intro x0 x1 σ H locs cells slots ls I hl hf
  obtain ⟨⟨hx, hb, hml, hown, hts⟩, -⟩ := id X
  unfold fX1_taxiAt at hf
  refine lv_iload_n hx hb dX1_taxiAt_0 rfl (lv_at hl 1 rfl) ?_
  refine lv_i2l hx hb dX1_taxiAt_1 rfl ?_
  refine lv_lconst (v := 0) hx hb dX1_taxiAt_2 (by decide) ?_
  refine lv_aload_n hx hb dX1_taxiAt_3 rfl (lv_at hl 0 rfl) ?_
  obtain ⟨v_1, ev_1, hf⟩ := ob hf
  refine g_get X I gfX1_87 (gR_in ev_1) dX1_taxiAt_4 ?_
  obtain ⟨a_2, ea_2, hga_2⟩ := ob hf
  have hla_2 := hl
  have Ia_2 := I
  subst ea_2
  have hf := hga_2
  have hl := hla_2
  have I := Ia_2
  obtain ⟨v_3, ev_3, hf⟩ := ob hf
  refine g_getN hX X I gfX1_133 (gR_in ev_3) dX1_taxiAt_7 ?_
  obtain ⟨a_4, ea_4, hga_4⟩ := ob hf
  have hla_4 := hl
  have Ia_4 := I
  subst ea_4
  have hf := hga_4
  have hl := hla_4
  have I := Ia_4
  obtain ⟨u_5, eu_5, hf⟩ := ob hf
  obtain ⟨v_6, ev_6, hf⟩ := ob hf
  refine cg_F (vw := (RJ2, TJ2, 3)) (ci := 21) (r := (some (.int v_6))) (σ' := σ) (rs := [.int v_6, .long (0 : Int64), .long (x1.toInt64)]) (rest := [.long (0 : Int64), .long (x1.toInt64)]) (As := []) hX X I eu_5 rfl (mJ2_size hX ev_6) lvX1_137_J2 hdX1_137_J2 ⟨Nat.le_trans (Nat.le_of_ble_eq_true rfl) hR.1, Nat.le_trans (Nat.le_of_ble_eq_true rfl) hR.2⟩ rfl hl.1 rfl (Nat.le_of_ble_eq_true rfl) rfl dX1_taxiAt_10 (fun H locs cells slots I => ?_)
  refine lv_iconst (v := 1) hx hb dX1_taxiAt_15 (by decide) ?_
  refine lv_isub hx hb dX1_taxiAt_16 ?_
  refine lv_i2l hx hb dX1_taxiAt_17 rfl ?_
  obtain ⟨v_8, ev_8, hf⟩ := ob hf
  refine cg_S (r := (some (.int v_8))) (σ' := σ) (rs := [.int v_8]) (rest := []) (As := [.long (x1.toInt64), .long (0 : Int64), .long ((v_6 - (1 : Int32)).toInt64)]) X I (mX1_inRange hX ev_8) lvX1_125 hdX1_125 ⟨Nat.le_trans (Nat.le_of_ble_eq_true rfl) hR.1, Nat.le_trans (Nat.le_of_ble_eq_true rfl) hR.2⟩ rfl hl.1 rfl (Nat.le_of_ble_eq_true rfl) rfl dX1_taxiAt_18 (fun H locs cells slots I => ?_)
  obtain ⟨⟨v_10, σ_11⟩, ev_10, hf⟩ := ob hf
  have hgv_10 := hf
  rcases v_10 with v_12 | q_13
  · have hf := se_l hgv_10
    refine cx_ret (r := none) (rs := []) I (xr_S (σ' := σ_11) (rest := []) (As := [.int v_8]) X I (mX1_requireExists hX hS ev_10) lvX1_129 hdX1_129 ⟨Nat.le_trans (Nat.le_of_ble_eq_true rfl) hR.1, Nat.le_trans (Nat.le_of_ble_eq_true rfl) hR.2⟩ rfl hl.1 rfl (Nat.le_of_ble_eq_true rfl) dX1_taxiAt_21) rfl (fun H locs cells slots I => ?_)
    refine lv_aload_n hx hb dX1_taxiAt_24 rfl (lv_at hl 0 rfl) ?_
    obtain ⟨v_14, ev_14, hf⟩ := ob hf
    refine g_get X I gfX1_87 (gR_in ev_14) dX1_taxiAt_25 ?_
    obtain ⟨a_15, ea_15, hga_15⟩ := ob hf
    have hla_15 := hl
    have Ia_15 := I
    subst ea_15
    have hf := hga_15
    have hl := hla_15
    have I := Ia_15
    obtain ⟨v_16, ev_16, hf⟩ := ob hf
    refine g_getN hX X I gfX1_133 (gR_in ev_16) dX1_taxiAt_28 ?_
    refine lv_iload_n hx hb dX1_taxiAt_31 rfl (lv_at hl 1 rfl) ?_
    obtain ⟨a_17, ea_17, hga_17⟩ := ob hf
    have hla_17 := hl
    have Ia_17 := I
    subst ea_17
    have hf := hga_17
    have hl := hla_17
    have I := Ia_17
    obtain ⟨u_18, eu_18, hf⟩ := ob hf
    obtain ⟨v_19, ev_19, hf⟩ := ob hf
    refine cg_F (vw := (RJ2, TJ2, 3)) (ci := 21) (r := (some (va_rf v_19))) (σ' := σ_11) (rs := [va_rf v_19]) (rest := []) (As := [.int x1]) hX X I eu_18 rfl (mJ2_get hX ev_19) lvX1_140_J2 hdX1_140_J2 ⟨Nat.le_trans (Nat.le_of_ble_eq_true rfl) hR.1, Nat.le_trans (Nat.le_of_ble_eq_true rfl) hR.2⟩ rfl hl.1 rfl (Nat.le_of_ble_eq_true rfl) rfl dX1_taxiAt_32 (fun H locs cells slots I => ?_)
    obtain ⟨a_21, ea_21, hga_21⟩ := ob hf
    have hla_21 := hl
    have Ia_21 := I
    subst ea_21
    have hf := hga_21
    have hl := hla_21
    have I := Ia_21
    obtain ⟨u_22, eu_22, hf⟩ := ob hf
    refine g_cast (vw := (RX12, TX12, 15)) X I rfl q805 eu_22 dX1_taxiAt_37 ?_
    cases os hf
    exact x_ret (r_aret X I (Or.inl ⟨_, rfl⟩) (Or.inr ⟨_, rfl⟩) dX1_taxiAt_40)
  · have hf := se_r hgv_10
    obtain ⟨uq_13, eq_13, hf⟩ := ob hf
    cases os hf
    refine cx_thr I (xr_S (σ' := σ_11) (rest := []) (As := [.int v_8]) X I (mX1_requireExists hX hS ev_10) lvX1_129 hdX1_129 ⟨Nat.le_trans (Nat.le_of_ble_eq_true rfl) hR.1, Nat.le_trans (Nat.le_of_ble_eq_true rfl) hR.2⟩ rfl hl.1 rfl (Nat.le_of_ble_eq_true rfl) dX1_taxiAt_21) (fun H locs cells slots I => ?_)
    exact x_out X XH rfl I eq_13
theorem mX1_taxiAt {E : EV} {l : Launch} {σ : St} {x0 : Nat} {x1 : Int32} {res : ((Nat ⊕ Nat) × St)} (hX : XK E) (hS : l.stackTraces = false) (hf : fX1_taxiAt σ x0 x1 = some res) : CX E l yX1_taxiAt (ws_ yX1_taxiAt cX1_taxiAt 2 (some (.object "SharedTaxis$Taxi"))) 7 109 [.ref x0, .int x1] σ (sv (fun v => (some (.ref v))) res.1) (sx res.1) res.2 := by
  refine CX.of hX.1 (by decide) rfl rfl (Nat.le_of_ble_eq_true rfl) ?_
  intro p e s m below meth c X XH I ls hl
  exact wX1_taxiAt_0 hX ⟨Nat.le_refl _, Nat.le_refl _⟩ X XH hS _ _ _ _ _ _ _ _ I hl hf
/-! java/lang/Integer.intValue()I imp=False fuel=False kap=False rt=I thr=False -/
theorem gfJ18_205 : ∀ q ∈ ([(27, 0)] : List (Nat × Nat)), GF RJ18 205 q := List.forall_mem_cons.mpr ⟨⟨RJ18, TJ18, 1, _, rfl, in_J18, by decide, q1936, Or.inl rfl⟩, fun _ h => by cases h⟩
def fJ18_intValue (σ : St) (x0 : Nat) : Option Int32 := (gI σ x0 [(27, 0)]).bind fun v_1 : Int32 => some v_1
theorem wJ18_intValue_0 {E : EV} {l : Launch} {p : Program} {e : Env} {s : State} {m : MethodId} {args : Array Value} {below : List Frame} {meth : Method} {c : Code} {R : Room} {σ : St} {res : Int32} (hX : XK E) (hR : 0 ≤ R.frames ∧ 0 ≤ R.locals) (X : MX E p s m args meth c cJ18_intValue 1 (some .int) RJ18 "intValue") : ∀ (x0 : Nat) (H : Heap) (locs : List Loc) (cells slots : Nat) (ls : Array Slot), WI E R s σ H locs cells slots → lv_has ls 1 [(0, .ref x0)] → fJ18_intValue σ x0 = some res → W p l e R s m args below meth c H locs cells slots (MQ below (Qd E R.cells R.slots (some (.int res)) σ) args s R.cells R.slots (fr E)) (F0 m 0 ls []) := by
  intro x0 H locs cells slots ls I hl hf
  obtain ⟨⟨hx, hb, hml, hown, hts⟩, -⟩ := id X
  unfold fJ18_intValue at hf
  refine lv_aload_n hx hb dJ18_intValue_0 rfl (lv_at hl 0 rfl) ?_
  obtain ⟨v_1, ev_1, hf⟩ := ob hf
  refine g_get X I gfJ18_205 (gI_in ev_1) dJ18_intValue_1 ?_
  cases os hf
  exact r_iret X I dJ18_intValue_4
theorem mJ18_intValue {E : EV} {l : Launch} {σ : St} {x0 : Nat} {res : Int32} (hX : XK E) (hf : fJ18_intValue σ x0 = some res) : CM E l yJ18_intValue (ws_ yJ18_intValue cJ18_intValue 1 (some .int)) 0 0 [.ref x0] σ (some (.int res)) σ := by
  refine CM.of hX.1 (by decide) rfl rfl (Nat.le_of_ble_eq_true rfl) ?_
  intro p e s m below meth c X I ls hl
  exact wJ18_intValue_0 hX ⟨Nat.le_refl _, Nat.le_refl _⟩ X _ _ _ _ _ _ I hl hf
/-! SharedTaxis$State.personsIn(LSharedTaxis$Taxi;)I imp=False fuel=True kap=False rt=I thr=False -/
theorem gfX2_85 : ∀ q ∈ ([(10, 8)] : List (Nat × Nat)), GN RX2 85 q := List.forall_mem_cons.mpr ⟨⟨RX12, TX12, 15, _, rfl, in_X12, by decide, q938⟩, fun _ h => by cases h⟩
theorem lvX2_90 : GoodIn lw_all (wsV RX2 90 RJ18 yJ18_intValue (ws_ yJ18_intValue cJ18_intValue 1 (some .int))) := lw_V q1609 q1610 q1611 q138 q1612
theorem hdX2_90 : yJ18_intValue.cls = RJ18 ∧ yJ18_intValue.cls ≠ "java/lang/invoke/MethodHandle" ∧ yJ18_intValue.cls ≠ "java/lang/invoke/VarHandle" ∧ (parseMethodDescriptor yJ18_intValue.desc).map (fun d => d.parameters.length) = some 0 := by decide +kernel
theorem gfX2_93 : ∀ q ∈ ([(14, 3)] : List (Nat × Nat)), GN RX2 93 q := List.forall_mem_cons.mpr ⟨⟨RX16, TX16, 15, _, rfl, in_X16, by decide, q1117⟩, fun _ h => by cases h⟩
def fX2_personsIn_4 (N : Nat) (σ : St) : Nat → Nat → Nat → Int32 → Int32 → Option Int32
  | 0, _, _, _, _ => none
  | n + 1, x0, x1, x2, x3 => (gR σ x1 [(10, 8)]).bind fun v_1 : Option Nat => (v_1).bind fun a_2 : Nat => (isC σ a_2 21).bind fun u_3 : Unit => (fJ2_size σ a_2).bind fun v_4 : Int32 => if v_4 ≤ x3 then some x2 else (gR σ x0 [(1, 6)]).bind fun v_6 : Option Nat => (gR σ x1 [(10, 8)]).bind fun v_7 : Option Nat => (v_7).bind fun a_8 : Nat => (isC σ a_8 21).bind fun u_9 : Unit => (fJ2_get σ a_8 x3).bind fun v_10 : Option Nat => (v_10).bind fun a_12 : Nat => (isC σ a_12 27).bind fun u_13 : Unit => (isC σ a_12 27).bind fun u_14 : Unit => (fJ18_intValue σ a_12).bind fun v_15 : Int32 => (v_6).bind fun a_17 : Nat => (isC σ a_17 21).bind fun u_18 : Unit => (fJ2_get σ a_17 v_15).bind fun v_19 : Option Nat => (v_19).bind fun a_21 : Nat => (isC σ a_21 14).bind fun u_22 : Unit => (gI σ a_21 [(14, 3)]).bind fun v_23 : Int32 => lt (x2 + v_23) fun x2_24 : Int32 => lt (x3 + 1) fun x3_25 : Int32 => fX2_personsIn_4 N σ n x0 x1 x2_24 x3_25
def fX2_personsIn (N : Nat) (σ : St) (x0 : Nat) (x1 : Nat) : Option Int32 := fX2_personsIn_4 N σ N x0 x1 (0 : Int32) (0 : Int32)
theorem wX2_personsIn_4 {E : EV} {l : Launch} {p : Program} {e : Env} {s : State} {m : MethodId} {args : Array Value} {below : List Frame} {meth : Method} {c : Code} {R : Room} {σ : St} {res : Int32} (hX : XK E) (hR : 3 ≤ R.frames ∧ 64 ≤ R.locals) (X : MX E p s m args meth c cX2_personsIn 4 (some .int) RX2 "personsIn") (N : Nat) : ∀ (n : Nat) (x0 : Nat) (x1 : Nat) (x2 : Int32) (x3 : Int32) (H : Heap) (locs : List Loc) (cells slots : Nat) (ls : Array Slot), WI E R s σ H locs cells slots → lv_has ls 4 [(0, .ref x0), (1, .ref x1), (2, .int x2), (3, .int x3)] → fX2_personsIn_4 N σ n x0 x1 x2 x3 = some res → W p l e R s m args below meth c H locs cells slots (MQ below (Qd E R.cells R.slots (some (.int res)) σ) args s R.cells R.slots (fr E)) (F0 m 4 ls []) := by
  intro n
  induction n with
  | zero => intro x0 x1 x2 x3 H locs cells slots ls I hl hf; exact nomatch (show none = some res from hf)
  | succ n ih =>
    intro x0 x1 x2 x3 H locs cells slots ls I hl hf
    obtain ⟨⟨hx, hb, hml, hown, hts⟩, -⟩ := id X
    rw [fX2_personsIn_4.eq_2] at hf
    refine lv_iload_n hx hb dX2_personsIn_4 rfl (lv_at hl 3 rfl) ?_
    refine lv_aload_n hx hb dX2_personsIn_5 rfl (lv_at hl 1 rfl) ?_
    obtain ⟨v_1, ev_1, hf⟩ := ob hf
    refine g_getN hX X I gfX2_85 (gR_in ev_1) dX2_personsIn_6 ?_
    obtain ⟨a_2, ea_2, hga_2⟩ := ob hf
    have hla_2 := hl
    have Ia_2 := I
    subst ea_2
    have hf := hga_2
    have hl := hla_2
    have I := Ia_2
    obtain ⟨u_3, eu_3, hf⟩ := ob hf
    obtain ⟨v_4, ev_4, hf⟩ := ob hf
    refine cg_F (vw := (RJ2, TJ2, 3)) (ci := 21) (r := (some (.int v_4))) (σ' := σ) (rs := [.int v_4, .int x3]) (rest := [.int x3]) (As := []) hX X I eu_3 rfl (mJ2_size hX ev_4) lvX2_48_J2 hdX2_48_J2 ⟨Nat.le_trans (Nat.le_of_ble_eq_true rfl) hR.1, Nat.le_trans (Nat.le_of_ble_eq_true rfl) hR.2⟩ rfl hl.1 rfl (Nat.le_of_ble_eq_true rfl) rfl dX2_personsIn_9 (fun H locs cells slots I => ?_)
    refine lv_icmp_ge (tgt := 57) hx hb dX2_personsIn_14 (by decide) (fun c_14 => ?_) (fun c_14 => ?_)
    · have hf := ip c_14 hf
      refine lv_iload_n hx hb dX2_personsIn_57 rfl (lv_at hl 2 rfl) ?_
      cases os hf
      exact r_iret X I dX2_personsIn_58
    · have hf := im c_14 hf
      refine lv_iload_n hx hb dX2_personsIn_17 rfl (lv_at hl 2 rfl) ?_
      refine lv_aload_n hx hb dX2_personsIn_18 rfl (lv_at hl 0 rfl) ?_
      obtain ⟨v_6, ev_6, hf⟩ := ob hf
      refine g_get X I gfX2_22 (gR_in ev_6) dX2_personsIn_19 ?_
      refine lv_aload_n hx hb dX2_personsIn_22 rfl (lv_at hl 1 rfl) ?_
      obtain ⟨v_7, ev_7, hf⟩ := ob hf
      refine g_getN hX X I gfX2_85 (gR_in ev_7) dX2_personsIn_23 ?_
      refine lv_iload_n hx hb dX2_personsIn_26 rfl (lv_at hl 3 rfl) ?_
      obtain ⟨a_8, ea_8, hga_8⟩ := ob hf
      have hla_8 := hl
      have Ia_8 := I
      subst ea_8
      have hf := hga_8
      have hl := hla_8
      have I := Ia_8
      obtain ⟨u_9, eu_9, hf⟩ := ob hf
      obtain ⟨v_10, ev_10, hf⟩ := ob hf
      refine cg_F (vw := (RJ2, TJ2, 3)) (ci := 21) (r := (some (va_rf v_10))) (σ' := σ) (rs := [va_rf v_10, va_rf v_6, .int x2]) (rest := [va_rf v_6, .int x2]) (As := [.int x3]) hX X I eu_9 rfl (mJ2_get hX ev_10) lvX2_54_J2 hdX2_54_J2 ⟨Nat.le_trans (Nat.le_of_ble_eq_true rfl) hR.1, Nat.le_trans (Nat.le_of_ble_eq_true rfl) hR.2⟩ rfl hl.1 rfl (by rcases v_6 with _ | _ <;> exact (Nat.le_of_ble_eq_true rfl)) rfl dX2_personsIn_27 (fun H locs cells slots I => ?_)
      obtain ⟨a_12, ea_12, hga_12⟩ := ob hf
      have hla_12 := hl
      have Ia_12 := I
      subst ea_12
      have hf := hga_12
      have hl := hla_12
      have I := Ia_12
      obtain ⟨u_13, eu_13, hf⟩ := ob hf
      refine g_cast (vw := (RJ18, TJ18, 1)) X I rfl q1608 eu_13 dX2_personsIn_32 ?_
      obtain ⟨u_14, eu_14, hf⟩ := ob hf
      obtain ⟨v_15, ev_15, hf⟩ := ob hf
      refine cg_V (vw := (RJ18, TJ18, 1)) (ci := 27) (r := (some (.int v_15))) (σ' := σ) (rs := [.int v_15, va_rf v_6, .int x2]) (rest := [va_rf v_6, .int x2]) (As := []) X I eu_14 rfl (mJ18_intValue hX ev_15) lvX2_90 hdX2_90 ⟨Nat.le_trans (Nat.le_of_ble_eq_true rfl) hR.1, Nat.le_trans (Nat.le_of_ble_eq_true rfl) hR.2⟩ rfl hl.1 rfl (by rcases v_6 with _ | _ <;> exact (Nat.le_of_ble_eq_true rfl)) rfl dX2_personsIn_35 (fun H locs cells slots I => ?_)
      obtain ⟨a_17, ea_17, hga_17⟩ := ob hf
      have hla_17 := hl
      have Ia_17 := I
      subst ea_17
      have hf := hga_17
      have hl := hla_17
      have I := Ia_17
      obtain ⟨u_18, eu_18, hf⟩ := ob hf
      obtain ⟨v_19, ev_19, hf⟩ := ob hf
      refine cg_F (vw := (RJ2, TJ2, 3)) (ci := 21) (r := (some (va_rf v_19))) (σ' := σ) (rs := [va_rf v_19, .int x2]) (rest := [.int x2]) (As := [.int v_15]) hX X I eu_18 rfl (mJ2_get hX ev_19) lvX2_54_J2 hdX2_54_J2 ⟨Nat.le_trans (Nat.le_of_ble_eq_true rfl) hR.1, Nat.le_trans (Nat.le_of_ble_eq_true rfl) hR.2⟩ rfl hl.1 rfl (Nat.le_of_ble_eq_true rfl) rfl dX2_personsIn_38 (fun H locs cells slots I => ?_)
      obtain ⟨a_21, ea_21, hga_21⟩ := ob hf
      have hla_21 := hl
      have Ia_21 := I
      subst ea_21
      have hf := hga_21
      have hl := hla_21
      have I := Ia_21
      obtain ⟨u_22, eu_22, hf⟩ := ob hf
      refine g_cast (vw := (RX16, TX16, 15)) X I rfl q1091 eu_22 dX2_personsIn_43 ?_
      obtain ⟨v_23, ev_23, hf⟩ := ob hf
      refine g_getN hX X I gfX2_93 (gI_in ev_23) dX2_personsIn_46 ?_
      refine lv_iadd hx hb dX2_personsIn_49 ?_
      obtain ⟨x2_24, ex2_24, hf⟩ := ol hf
      refine nm_i ex2_24 ?_
      refine lv_istore_n (lv' := [(2, .int x2_24), (0, .ref x0), (1, .ref x1), (3, .int x3)]) hx hb dX2_personsIn_50 rfl hl (by decide) rfl (fun ls hl => ?_)
      obtain ⟨x3_25, ex3_25, hf⟩ := ol hf
      refine lv_iinc (v := x3_25) (lv' := [(3, .int x3_25), (2, .int x2_24), (0, .ref x0), (1, .ref x1)]) hx hb dX2_personsIn_51 hl (k := 3) rfl ex3_25 (by decide) rfl (fun ls hl => ?_)
      refine lv_goto (tgt := 4) hx hb dX2_personsIn_54 (by decide) ?_
      exact ih x0 x1 x2_24 x3_25 _ _ _ _ _ I (lv_sub hl [2, 3, 1, 0] rfl) hf
theorem wX2_personsIn_0 {E : EV} {l : Launch} {p : Program} {e : Env} {s : State} {m : MethodId} {args : Array Value} {below : List Frame} {meth : Method} {c : Code} {R : Room} {σ : St} {res : Int32} (hX : XK E) (hR : 3 ≤ R.frames ∧ 64 ≤ R.locals) (X : MX E p s m args meth c cX2_personsIn 4 (some .int) RX2 "personsIn") (N : Nat) : ∀ (x0 : Nat) (x1 : Nat) (H : Heap) (locs : List Loc) (cells slots : Nat) (ls : Array Slot), WI E R s σ H locs cells slots → lv_has ls 4 [(0, .ref x0), (1, .ref x1)] → fX2_personsIn N σ x0 x1 = some res → W p l e R s m args below meth c H locs cells slots (MQ below (Qd E R.cells R.slots (some (.int res)) σ) args s R.cells R.slots (fr E)) (F0 m 0 ls []) := by
  intro x0 x1 H locs cells slots ls I hl hf
  obtain ⟨⟨hx, hb, hml, hown, hts⟩, -⟩ := id X
  unfold fX2_personsIn at hf
  refine lv_iconst (v := 0) hx hb dX2_personsIn_0 (by decide) ?_
  refine lv_istore_n (lv' := [(2, .int (0 : Int32)), (0, .ref x0), (1, .ref x1)]) hx hb dX2_personsIn_1 rfl hl (by decide) rfl (fun ls hl => ?_)
  refine lv_iconst (v := 0) hx hb dX2_personsIn_2 (by decide) ?_
  refine lv_istore_n (lv' := [(3, .int (0 : Int32)), (2, .int (0 : Int32)), (0, .ref x0), (1, .ref x1)]) hx hb dX2_personsIn_3 rfl hl (by decide) rfl (fun ls hl => ?_)
  exact wX2_personsIn_4 hX hR X N N x0 x1 (0 : Int32) (0 : Int32) _ _ _ _ _ I (lv_sub hl [2, 3, 1, 0] rfl) hf
theorem mX2_personsIn {E : EV} {l : Launch} {N : Nat} {σ : St} {x0 : Nat} {x1 : Nat} {res : Int32} (hX : XK E) (hf : fX2_personsIn N σ x0 x1 = some res) : CM E l yX2_personsIn (ws_ yX2_personsIn cX2_personsIn 4 (some .int)) 3 64 [.ref x0, .ref x1] σ (some (.int res)) σ := by
  refine CM.of hX.1 (by decide) rfl rfl (Nat.le_of_ble_eq_true rfl) ?_
  intro p e s m below meth c X I ls hl
  exact wX2_personsIn_0 hX ⟨Nat.le_refl _, Nat.le_refl _⟩ X N _ _ _ _ _ _ _ I hl hf
