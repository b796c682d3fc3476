/-! walks over the abstract heap (printed by gen/gwalk.py) -/
set_option maxRecDepth 100000
/-! SharedTaxis.taxi(II)I imp=True fuel=True kap=False rt=I thr=True -/
theorem lvX1_238 : GoodIn lw_all (wsV RX1 238 RX1 yX1_taxiAt (ws_ yX1_taxiAt cX1_taxiAt 2 (some (.object "SharedTaxis$Taxi")))) := lw_V q1598 q1600 qs18 q113 q1601
theorem hdX1_238 : yX1_taxiAt.cls = RX1 ∧ yX1_taxiAt.cls ≠ "java/lang/invoke/MethodHandle" ∧ yX1_taxiAt.cls ≠ "java/lang/invoke/VarHandle" ∧ (parseMethodDescriptor yX1_taxiAt.desc).map (fun d => d.parameters.length) = some 1 := by decide +kernel
theorem gfX1_242 : ∀ q ∈ ([(10, 0)] : List (Nat × Nat)), GN RX1 242 q := List.forall_mem_cons.mpr ⟨⟨RX12, TX12, 15, _, rfl, in_X12, by decide, q907⟩, fun _ h => by cases h⟩
theorem gfX1_245 : ∀ q ∈ ([(10, 2)] : List (Nat × Nat)), GN RX1 245 q := List.forall_mem_cons.mpr ⟨⟨RX12, TX12, 15, _, rfl, in_X12, by decide, q913⟩, fun _ h => by cases h⟩
theorem gfX1_248 : ∀ q ∈ ([(10, 3)] : List (Nat × Nat)), GN RX1 248 q := List.forall_mem_cons.mpr ⟨⟨RX12, TX12, 15, _, rfl, in_X12, by decide, q917⟩, fun _ h => by cases h⟩
theorem gfX1_251 : ∀ q ∈ ([(10, 1)] : List (Nat × Nat)), GN RX1 251 q := List.forall_mem_cons.mpr ⟨⟨RX12, TX12, 15, _, rfl, in_X12, by decide, q909⟩, fun _ h => by cases h⟩
theorem gfX1_254 : ∀ q ∈ ([(10, 4)] : List (Nat × Nat)), GN RX1 254 q := List.forall_mem_cons.mpr ⟨⟨RX12, TX12, 15, _, rfl, in_X12, by decide, q920⟩, fun _ h => by cases h⟩
theorem lvX1_257 : GoodIn lw_all (wsV RX1 257 RX2 yX2_personsIn (ws_ yX2_personsIn cX2_personsIn 4 (some .int))) := lw_V q1604 q1605 q1606 q114 q1607
theorem hdX1_257 : yX2_personsIn.cls = RX2 ∧ yX2_personsIn.cls ≠ "java/lang/invoke/MethodHandle" ∧ yX2_personsIn.cls ≠ "java/lang/invoke/VarHandle" ∧ (parseMethodDescriptor yX2_personsIn.desc).map (fun d => d.parameters.length) = some 1 := by decide +kernel
theorem gfX1_261 : ∀ q ∈ ([(10, 8)] : List (Nat × Nat)), GN RX1 261 q := List.forall_mem_cons.mpr ⟨⟨RX12, TX12, 15, _, rfl, in_X12, by decide, q939⟩, fun _ h => by cases h⟩
theorem gfX1_264 : ∀ q ∈ ([(10, 5)] : List (Nat × Nat)), GN RX1 264 q := List.forall_mem_cons.mpr ⟨⟨RX12, TX12, 15, _, rfl, in_X12, by decide, q924⟩, fun _ h => by cases h⟩
theorem gfX1_266 : ∀ q ∈ ([(10, 6)] : List (Nat × Nat)), GN RX1 266 q := List.forall_mem_cons.mpr ⟨⟨RX12, TX12, 15, _, rfl, in_X12, by decide, q929⟩, fun _ h => by cases h⟩
def fX1_taxi (N : Nat) (σ : St) (x0 : Nat) (x1 : Int32) (x2 : Int32) : Option ((Int32 ⊕ Nat) × St) := (isC σ x0 0).bind fun u_1 : Unit => (fX1_taxiAt σ x0 x1).bind fun (v_2, σ_3) => se v_2 (fun v_4 => if x2 = 0 then (gI σ_3 v_4 [(10, 0)]).bind fun v_6 : Int32 => some (.inl v_6, σ_3) else if x2 = 1 then (gI σ_3 v_4 [(10, 2)]).bind fun v_7 : Int32 => some (.inl v_7, σ_3) else if x2 = 2 then (gI σ_3 v_4 [(10, 3)]).bind fun v_8 : Int32 => some (.inl v_8, σ_3) else if x2 = 3 then (gI σ_3 v_4 [(10, 1)]).bind fun v_9 : Int32 => some (.inl v_9, σ_3) else if x2 = 4 then (gI σ_3 v_4 [(10, 4)]).bind fun v_10 : Int32 => some (.inl v_10, σ_3) else if x2 = 5 then (gR σ_3 v_4 [(10, 7)]).bind fun v_11 : Option Nat => (v_11).bind fun a_12 : Nat => (isC σ_3 a_12 21).bind fun u_13 : Unit => (fJ2_size σ_3 a_12).bind fun v_14 : Int32 => some (.inl v_14, σ_3) else if x2 = 6 then (gR σ_3 x0 [(0, 3)]).bind fun v_16 : Option Nat => (v_16).bind fun a_17 : Nat => (isC σ_3 a_17 1).bind fun u_18 : Unit => (fX2_personsIn N σ_3 a_17 v_4).bind fun v_19 : Int32 => some (.inl v_19, σ_3) else if x2 = 7 then (gR σ_3 v_4 [(10, 8)]).bind fun v_21 : Option Nat => (v_21).bind fun a_22 : Nat => (isC σ_3 a_22 21).bind fun u_23 : Unit => (fJ2_size σ_3 a_22).bind fun v_24 : Int32 => some (.inl v_24, σ_3) else if x2 = 8 then (gI σ_3 v_4 [(10, 5)]).bind fun v_26 : Int32 => some (.inl v_26, σ_3) else if x2 = 9 then (gI σ_3 v_4 [(10, 6)]).bind fun v_27 : Int32 => some (.inl v_27, σ_3) else (nH σ_3 6 (.inr (34, []))).bind fun (q_28a, q_28s) => (isX q_28s q_28a).bind fun u_29 : Unit => some (.inr q_28a, q_28s)) (fun q_5 => (isX σ_3 q_5).bind fun uq_5 : Unit => some (.inr q_5, σ_3))
theorem wX1_taxi_0 {E : EV} {l : Launch} {p : Program} {e : Env} {s : State} {m : MethodId} {args : Array Value} {below : List Frame} {meth : Method} {c : Code} {R : Room} {res : ((Int32 ⊕ Nat) × St)} (hX : XK E) (hR : 8 ≤ R.frames ∧ 130 ≤ R.locals) (X : MX E p s m args meth c cX1_taxi 4 (some .int) RX1 "taxi") (XH : MH c []) (hS : l.stackTraces = false) (N : Nat) : ∀ (x0 : Nat) (x1 : Int32) (x2 : Int32) (σ : St) (H : Heap) (locs : List Loc) (cells slots : Nat) (ls : Array Slot), WI E R s σ H locs cells slots → lv_has ls 4 [(0, .ref x0), (1, .int x1), (2, .int x2)] → fX1_taxi N σ x0 x1 x2 = some res → W p l e R s m args below meth c H locs cells slots (vx_MQ below (QS E R.cells R.slots (sv (fun v => (some (.int v))) res.1) res.2) (XS E R.cells R.slots (sx res.1) res.2) args s R.cells R.slots (fr E)) (F0 m 0 ls []) := by
  intro x0 x1 x2 σ H locs cells slots ls I hl hf
  obtain ⟨⟨hx, hb, hml, hown, hts⟩, -⟩ := id X
  unfold fX1_taxi at hf
  refine lv_aload_n hx hb dX1_taxi_0 rfl (lv_at hl 0 rfl) ?_
  refine lv_iload_n hx hb dX1_taxi_1 rfl (lv_at hl 1 rfl) ?_
  obtain ⟨u_1, eu_1, hf⟩ := ob hf
  obtain ⟨⟨v_2, σ_3⟩, ev_2, hf⟩ := ob hf
  have hgv_2 := hf
  rcases v_2 with v_4 | q_5
  · have hf := se_l hgv_2
    refine cx_ret (r := (some (.ref v_4))) (rs := [.ref v_4]) I (xr_V (vw := (RX1, TX1, 7)) (ci := 0) (σ' := σ_3) (rest := []) (As := [.int x1]) X I eu_1 rfl (mX1_taxiAt hX hS ev_2) lvX1_238 hdX1_238 ⟨Nat.le_trans (Nat.le_of_ble_eq_true rfl) hR.1, Nat.le_trans (Nat.le_of_ble_eq_true rfl) hR.2⟩ rfl hl.1 rfl (Nat.le_of_ble_eq_true rfl) dX1_taxi_2) rfl (fun H locs cells slots I => ?_)
    refine lv_astore_n (lv' := [(3, .ref v_4), (0, .ref x0), (1, .int x1), (2, .int x2)]) hx hb dX1_taxi_5 rfl hl (by decide) rfl (fun ls hl => ?_)
    refine lv_iload_n hx hb dX1_taxi_6 rfl (lv_at hl 3 rfl) ?_
    by_cases c_7_0 : x2 = 0
    · have hf := ip c_7_0 hf
      refine lv_tableIn (off := 53) (tgt := 60) hx hb dX1_taxi_7 (by rw [c_7_0]; decide) (by rw [c_7_0]; decide) (by rw [c_7_0]; rfl) (by decide) ?_
      refine lv_aload_n hx hb dX1_taxi_60 rfl (lv_at hl 0 rfl) ?_
      obtain ⟨v_6, ev_6, hf⟩ := ob hf
      refine g_getN hX X I gfX1_242 (gI_in ev_6) dX1_taxi_61 ?_
      refine lv_goto (tgt := 152) hx hb dX1_taxi_64 (by decide) ?_
      cases os hf
      exact x_ret (r_iret X I dX1_taxi_152)
    · have hf := im c_7_0 hf
      by_cases c_7_1 : x2 = 1
      · have hf := ip c_7_1 hf
        refine lv_tableIn (off := 60) (tgt := 67) hx hb dX1_taxi_7 (by rw [c_7_1]; decide) (by rw [c_7_1]; decide) (by rw [c_7_1]; rfl) (by decide) ?_
        refine lv_aload_n hx hb dX1_taxi_67 rfl (lv_at hl 0 rfl) ?_
        obtain ⟨v_7, ev_7, hf⟩ := ob hf
        refine g_getN hX X I gfX1_245 (gI_in ev_7) dX1_taxi_68 ?_
        refine lv_goto (tgt := 152) hx hb dX1_taxi_71 (by decide) ?_
        cases os hf
        exact x_ret (r_iret X I dX1_taxi_152)
      · have hf := im c_7_1 hf
        by_cases c_7_2 : x2 = 2
        · have hf := ip c_7_2 hf
          refine lv_tableIn (off := 67) (tgt := 74) hx hb dX1_taxi_7 (by rw [c_7_2]; decide) (by rw [c_7_2]; decide) (by rw [c_7_2]; rfl) (by decide) ?_
          refine lv_aload_n hx hb dX1_taxi_74 rfl (lv_at hl 0 rfl) ?_
          obtain ⟨v_8, ev_8, hf⟩ := ob hf
          refine g_getN hX X I gfX1_248 (gI_in ev_8) dX1_taxi_75 ?_
          refine lv_goto (tgt := 152) hx hb dX1_taxi_78 (by decide) ?_
          cases os hf
          exact x_ret (r_iret X I dX1_taxi_152)
        · have hf := im c_7_2 hf
          by_cases c_7_3 : x2 = 3
          · have hf := ip c_7_3 hf
            refine lv_tableIn (off := 74) (tgt := 81) hx hb dX1_taxi_7 (by rw [c_7_3]; decide) (by rw [c_7_3]; decide) (by rw [c_7_3]; rfl) (by decide) ?_
            refine lv_aload_n hx hb dX1_taxi_81 rfl (lv_at hl 0 rfl) ?_
            obtain ⟨v_9, ev_9, hf⟩ := ob hf
            refine g_getN hX X I gfX1_251 (gI_in ev_9) dX1_taxi_82 ?_
            refine lv_goto (tgt := 152) hx hb dX1_taxi_85 (by decide) ?_
            cases os hf
            exact x_ret (r_iret X I dX1_taxi_152)
          · have hf := im c_7_3 hf
            by_cases c_7_4 : x2 = 4
            · have hf := ip c_7_4 hf
              refine lv_tableIn (off := 81) (tgt := 88) hx hb dX1_taxi_7 (by rw [c_7_4]; decide) (by rw [c_7_4]; decide) (by rw [c_7_4]; rfl) (by decide) ?_
              refine lv_aload_n hx hb dX1_taxi_88 rfl (lv_at hl 0 rfl) ?_
              obtain ⟨v_10, ev_10, hf⟩ := ob hf
              refine g_getN hX X I gfX1_254 (gI_in ev_10) dX1_taxi_89 ?_
              refine lv_goto (tgt := 152) hx hb dX1_taxi_92 (by decide) ?_
              cases os hf
              exact x_ret (r_iret X I dX1_taxi_152)
            · have hf := im c_7_4 hf
              by_cases c_7_5 : x2 = 5
              · have hf := ip c_7_5 hf
                refine lv_tableIn (off := 88) (tgt := 95) hx hb dX1_taxi_7 (by rw [c_7_5]; decide) (by rw [c_7_5]; decide) (by rw [c_7_5]; rfl) (by decide) ?_
                refine lv_aload_n hx hb dX1_taxi_95 rfl (lv_at hl 0 rfl) ?_
                obtain ⟨v_11, ev_11, hf⟩ := ob hf
                refine g_getN hX X I gfX1_203 (gR_in ev_11) dX1_taxi_96 ?_
                obtain ⟨a_12, ea_12, hga_12⟩ := ob hf
                have hla_12 := hl
                have Ia_12 := I
                subst ea_12
                have hf := hga_12
                have hl := hla_12
                have I := Ia_12
                obtain ⟨u_13, eu_13, hf⟩ := ob hf
                obtain ⟨v_14, ev_14, hf⟩ := ob hf
                refine cg_F (vw := (RJ2, TJ2, 3)) (ci := 21) (r := (some (.int v_14))) (σ' := σ_3) (rs := [.int v_14]) (rest := []) (As := []) hX X I eu_13 rfl (mJ2_size hX ev_14) lvX1_137_J2 hdX1_137_J2 ⟨Nat.le_trans (Nat.le_of_ble_eq_true rfl) hR.1, Nat.le_trans (Nat.le_of_ble_eq_true rfl) hR.2⟩ rfl hl.1 rfl (Nat.le_of_ble_eq_true rfl) rfl dX1_taxi_99 (fun H locs cells slots I => ?_)
                refine lv_goto (tgt := 152) hx hb dX1_taxi_104 (by decide) ?_
                cases os hf
                exact x_ret (r_iret X I dX1_taxi_152)
              · have hf := im c_7_5 hf
                by_cases c_7_6 : x2 = 6
                · have hf := ip c_7_6 hf
                  refine lv_tableIn (off := 100) (tgt := 107) hx hb dX1_taxi_7 (by rw [c_7_6]; decide) (by rw [c_7_6]; decide) (by rw [c_7_6]; rfl) (by decide) ?_
                  refine lv_aload_n hx hb dX1_taxi_107 rfl (lv_at hl 1 rfl) ?_
                  obtain ⟨v_16, ev_16, hf⟩ := ob hf
                  refine g_get X I gfX1_87 (gR_in ev_16) dX1_taxi_108 ?_
                  refine lv_aload_n hx hb dX1_taxi_111 rfl (lv_at hl 0 rfl) ?_
                  obtain ⟨a_17, ea_17, hga_17⟩ := ob hf
                  have hla_17 := hl
                  have Ia_17 := I
                  subst ea_17
                  have hf := hga_17
                  have hl := hla_17
                  have I := Ia_17
                  obtain ⟨u_18, eu_18, hf⟩ := ob hf
                  obtain ⟨v_19, ev_19, hf⟩ := ob hf
                  refine cg_V (vw := (RX2, TX2, 7)) (ci := 1) (r := (some (.int v_19))) (σ' := σ_3) (rs := [.int v_19]) (rest := []) (As := [.ref v_4]) X I eu_18 rfl (mX2_personsIn hX ev_19) lvX1_257 hdX1_257 ⟨Nat.le_trans (Nat.le_of_ble_eq_true rfl) hR.1, Nat.le_trans (Nat.le_of_ble_eq_true rfl) hR.2⟩ rfl hl.1 rfl (Nat.le_of_ble_eq_true rfl) rfl dX1_taxi_112 (fun H locs cells slots I => ?_)
                  refine lv_goto (tgt := 152) hx hb dX1_taxi_115 (by decide) ?_
                  cases os hf
                  exact x_ret (r_iret X I dX1_taxi_152)
                · have hf := im c_7_6 hf
                  by_cases c_7_7 : x2 = 7
                  · have hf := ip c_7_7 hf
                    refine lv_tableIn (off := 111) (tgt := 118) hx hb dX1_taxi_7 (by rw [c_7_7]; decide) (by rw [c_7_7]; decide) (by rw [c_7_7]; rfl) (by decide) ?_
                    refine lv_aload_n hx hb dX1_taxi_118 rfl (lv_at hl 0 rfl) ?_
                    obtain ⟨v_21, ev_21, hf⟩ := ob hf
                    refine g_getN hX X I gfX1_261 (gR_in ev_21) dX1_taxi_119 ?_
                    obtain ⟨a_22, ea_22, hga_22⟩ := ob hf
                    have hla_22 := hl
                    have Ia_22 := I
                    subst ea_22
                    have hf := hga_22
                    have hl := hla_22
                    have I := Ia_22
                    obtain ⟨u_23, eu_23, hf⟩ := ob hf
                    obtain ⟨v_24, ev_24, hf⟩ := ob hf
                    refine cg_F (vw := (RJ2, TJ2, 3)) (ci := 21) (r := (some (.int v_24))) (σ' := σ_3) (rs := [.int v_24]) (rest := []) (As := []) hX X I eu_23 rfl (mJ2_size hX ev_24) lvX1_137_J2 hdX1_137_J2 ⟨Nat.le_trans (Nat.le_of_ble_eq_true rfl) hR.1, Nat.le_trans (Nat.le_of_ble_eq_true rfl) hR.2⟩ rfl hl.1 rfl (Nat.le_of_ble_eq_true rfl) rfl dX1_taxi_122 (fun H locs cells slots I => ?_)
                    refine lv_goto (tgt := 152) hx hb dX1_taxi_127 (by decide) ?_
                    cases os hf
                    exact x_ret (r_iret X I dX1_taxi_152)
                  · have hf := im c_7_7 hf
                    by_cases c_7_8 : x2 = 8
                    · have hf := ip c_7_8 hf
                      refine lv_tableIn (off := 123) (tgt := 130) hx hb dX1_taxi_7 (by rw [c_7_8]; decide) (by rw [c_7_8]; decide) (by rw [c_7_8]; rfl) (by decide) ?_
                      refine lv_aload_n hx hb dX1_taxi_130 rfl (lv_at hl 0 rfl) ?_
                      obtain ⟨v_26, ev_26, hf⟩ := ob hf
                      refine g_getN hX X I gfX1_264 (gI_in ev_26) dX1_taxi_131 ?_
                      refine lv_goto (tgt := 152) hx hb dX1_taxi_134 (by decide) ?_
                      cases os hf
                      exact x_ret (r_iret X I dX1_taxi_152)
                    · have hf := im c_7_8 hf
                      by_cases c_7_9 : x2 = 9
                      · have hf := ip c_7_9 hf
                        refine lv_tableIn (off := 130) (tgt := 137) hx hb dX1_taxi_7 (by rw [c_7_9]; decide) (by rw [c_7_9]; decide) (by rw [c_7_9]; rfl) (by decide) ?_
                        refine lv_aload_n hx hb dX1_taxi_137 rfl (lv_at hl 0 rfl) ?_
                        obtain ⟨v_27, ev_27, hf⟩ := ob hf
                        refine g_getN hX X I gfX1_266 (gI_in ev_27) dX1_taxi_138 ?_
                        refine lv_goto (tgt := 152) hx hb dX1_taxi_141 (by decide) ?_
                        cases os hf
                        exact x_ret (r_iret X I dX1_taxi_152)
                      · have hf := im c_7_9 hf
                        refine lv_tableOut (tgt := 144) hx hb dX1_taxi_7 (by exact sw_out 0 9 (fun k h1 h2 => by rcases (show k = 0 ∨ k = 1 ∨ k = 2 ∨ k = 3 ∨ k = 4 ∨ k = 5 ∨ k = 6 ∨ k = 7 ∨ k = 8 ∨ k = 9 by omega) with rfl | rfl | rfl | rfl | rfl | rfl | rfl | rfl | rfl | rfl; exact c_7_0; exact c_7_1; exact c_7_2; exact c_7_3; exact c_7_4; exact c_7_5; exact c_7_6; exact c_7_7; exact c_7_8; exact c_7_9)) (by decide) ?_
                        obtain ⟨⟨q_28a, q_28s⟩, eq_28, hf⟩ := ob hf
                        refine x_make (cls := RJ22) (names := xnm) (ik := 1) (ic := 3) hX hS X I rfl (by decide) xnm_fit q415 q148 xat_E22 eq_28 hl.1 ⟨Nat.le_trans (Nat.le_of_ble_eq_true rfl) hR.1, Nat.le_trans (Nat.le_of_ble_eq_true rfl) hR.2⟩ (Nat.le_of_ble_eq_true rfl) dX1_taxi_144 dX1_taxi_147 dX1_taxi_148 (fun H locs cells slots I => ?_)
                        obtain ⟨u_29, eu_29, hf⟩ := ob hf
                        cases os hf
                        exact x_athrow X XH rfl I eu_29 dX1_taxi_151
  · have hf := se_r hgv_2
    obtain ⟨uq_5, eq_5, hf⟩ := ob hf
    cases os hf
    refine cx_thr I (xr_V (vw := (RX1, TX1, 7)) (ci := 0) (σ' := σ_3) (rest := []) (As := [.int x1]) X I eu_1 rfl (mX1_taxiAt hX hS ev_2) lvX1_238 hdX1_238 ⟨Nat.le_trans (Nat.le_of_ble_eq_true rfl) hR.1, Nat.le_trans (Nat.le_of_ble_eq_true rfl) hR.2⟩ rfl hl.1 rfl (Nat.le_of_ble_eq_true rfl) dX1_taxi_2) (fun H locs cells slots I => ?_)
    exact x_out X XH rfl I eq_5
theorem mX1_taxi {E : EV} {l : Launch} {N : Nat} {σ : St} {x0 : Nat} {x1 : Int32} {x2 : Int32} {res : ((Int32 ⊕ Nat) × St)} (hX : XK E) (hS : l.stackTraces = false) (hf : fX1_taxi N σ x0 x1 x2 = some res) : CX E l yX1_taxi (ws_ yX1_taxi cX1_taxi 4 (some .int)) 8 130 [.ref x0, .int x1, .int x2] σ (sv (fun v => (some (.int v))) res.1) (sx res.1) res.2 := by
  refine CX.of hX.1 (by decide) rfl rfl (Nat.le_of_ble_eq_true rfl) ?_
  intro p e s m below meth c X XH I ls hl
  exact wX1_taxi_0 hX ⟨Nat.le_refl _, Nat.le_refl _⟩ X XH hS N _ _ _ _ _ _ _ _ _ I hl hf
/-! SharedTaxisLaw.taxi(LSharedTaxis;II[J)I imp=True fuel=True kap=False rt=I thr=False -/
theorem lvX0_27 : GoodIn lw_all (wsV RX0 27 RX1 yX1_taxi (ws_ yX1_taxi cX1_taxi 4 (some .int))) := lw_V q1594 q1595 q1596 q113 q1597
theorem hdX0_27 : yX1_taxi.cls = RX1 ∧ yX1_taxi.cls ≠ "java/lang/invoke/MethodHandle" ∧ yX1_taxi.cls ≠ "java/lang/invoke/VarHandle" ∧ (parseMethodDescriptor yX1_taxi.desc).map (fun d => d.parameters.length) = some 2 := by decide +kernel
def fX0_taxi (N : Nat) (σ : St) (x0 : Nat) (x1 : Int32) (x2 : Int32) (x3 : Nat) : Option (Int32 × St) := (isC σ x0 0).bind fun u_1 : Unit => (fX1_taxi N σ x0 x1 x2).bind fun (v_2, σ_3) => se v_2 (fun v_4 => (sJ σ_3 x3 (0 : Int32) (v_4.toInt64)).bind fun σ_6 : St => some ((0 : Int32), σ_6)) (fun q_5 => (clsX σ_3 q_5).bind fun c_7 : Nat => if c_7 = 34 then some ((1 : Int32), σ_3) else none)
theorem wX0_taxi_0 {E : EV} {l : Launch} {p : Program} {e : Env} {s : State} {m : MethodId} {args : Array Value} {below : List Frame} {meth : Method} {c : Code} {R : Room} {res : (Int32 × St)} (hX : XK E) (hR : 9 ≤ R.frames ∧ 153 ≤ R.locals) (X : MX E p s m args meth c cX0_taxi 5 (some .int) RX0 "taxi") (XH : MH c [(0, 10, 13, 18)]) (hS : l.stackTraces = false) (N : Nat) : ∀ (x0 : Nat) (x1 : Int32) (x2 : Int32) (x3 : Nat) (σ : St) (H : Heap) (locs : List Loc) (cells slots : Nat) (ls : Array Slot), WI E R s σ H locs cells slots → lv_has ls 5 [(0, .ref x0), (1, .int x1), (2, .int x2), (3, .ref x3)] → fX0_taxi N σ x0 x1 x2 x3 = some res → W p l e R s m args below meth c H locs cells slots (vx_MQ below (QS E R.cells R.slots (some (some (.int res.1))) res.2) (XS E R.cells R.slots none res.2) args s R.cells R.slots (fr E)) (F0 m 0 ls []) := by
  intro x0 x1 x2 x3 σ H locs cells slots ls I hl hf
  obtain ⟨⟨hx, hb, hml, hown, hts⟩, -⟩ := id X
  unfold fX0_taxi at hf
  refine lv_aload_n hx hb dX0_taxi_0 rfl (lv_at hl 3 rfl) ?_
  refine lv_iconst (v := 0) hx hb dX0_taxi_1 (by decide) ?_
  refine lv_aload_n hx hb dX0_taxi_2 rfl (lv_at hl 0 rfl) ?_
  refine lv_iload_n hx hb dX0_taxi_3 rfl (lv_at hl 1 rfl) ?_
  refine lv_iload_n hx hb dX0_taxi_4 rfl (lv_at hl 2 rfl) ?_
  obtain ⟨u_1, eu_1, hf⟩ := ob hf
  obtain ⟨⟨v_2, σ_3⟩, ev_2, hf⟩ := ob hf
  have hgv_2 := hf
  rcases v_2 with v_4 | q_5
  · have hf := se_l hgv_2
    refine cx_ret (r := (some (.int v_4))) (rs := [.int v_4, .int (0 : Int32), .ref x3]) I (xr_V (vw := (RX1, TX1, 7)) (ci := 0) (σ' := σ_3) (rest := [.int (0 : Int32), .ref x3]) (As := [.int x1, .int x2]) X I eu_1 rfl (mX1_taxi hX hS ev_2) lvX0_27 hdX0_27 ⟨Nat.le_trans (Nat.le_of_ble_eq_true rfl) hR.1, Nat.le_trans (Nat.le_of_ble_eq_true rfl) hR.2⟩ rfl hl.1 rfl (Nat.le_of_ble_eq_true rfl) dX0_taxi_5) rfl (fun H locs cells slots I => ?_)
    refine lv_i2l hx hb dX0_taxi_8 rfl ?_
    obtain ⟨σ_6, eσ_6, hf⟩ := ob hf
    refine g_last X I eσ_6 dX0_taxi_9 (fun H locs I => ?_)
    refine lv_goto (tgt := 17) hx hb dX0_taxi_10 (by decide) ?_
    refine lv_iconst (v := 0) hx hb dX0_taxi_17 (by decide) ?_
    cases os hf
    exact x_ret (r_iret X I dX0_taxi_18)
  · have hf := se_r hgv_2
    obtain ⟨c_7, ec_7, hf⟩ := ob hf
    refine cx_thr I (xr_V (vw := (RX1, TX1, 7)) (ci := 0) (σ' := σ_3) (rest := [.int (0 : Int32), .ref x3]) (As := [.int x1, .int x2]) X I eu_1 rfl (mX1_taxi hX hS ev_2) lvX0_27 hdX0_27 ⟨Nat.le_trans (Nat.le_of_ble_eq_true rfl) hR.1, Nat.le_trans (Nat.le_of_ble_eq_true rfl) hR.2⟩ rfl hl.1 rfl (Nat.le_of_ble_eq_true rfl) dX0_taxi_5) (fun H locs cells slots I => ?_)
    by_cases cc_7_E22 : c_7 = 34
    · have hf := ip cc_7_E22 hf
      refine x_catch (vw := (RJ22, TJ22, 0)) hX X XH I (cc_7_E22 ▸ ec_7) rfl ((tableOf [(0, 10, 13, 18)]).take 0) _ _ rfl (fun z hz => nomatch hz) rfl (by decide) q1558 q417 ?_
      refine lv_astore (lv' := [(4, .ref q_5), (0, .ref x0), (1, .int x1), (2, .int x2), (3, .ref x3)]) hx hb dX0_taxi_13 hl (by decide) rfl (fun ls hl => ?_)
      refine lv_iconst (v := 1) hx hb dX0_taxi_15 (by decide) ?_
      cases os hf
      exact x_ret (r_iret X I dX0_taxi_16)
    · have hf := im cc_7_E22 hf
      exact nomatch hf
theorem mX0_taxi {E : EV} {l : Launch} {N : Nat} {σ : St} {x0 : Nat} {x1 : Int32} {x2 : Int32} {x3 : Nat} {res : (Int32 × St)} (hX : XK E) (hS : l.stackTraces = false) (hf : fX0_taxi N σ x0 x1 x2 x3 = some res) : CX E l yX0_taxi (wsW_ yX0_taxi cX0_taxi 5 (some .int) [(0, 10, 13, 18)]) 9 153 [.ref x0, .int x1, .int x2, .ref x3] σ (some (some (.int res.1))) none res.2 := by
  refine CX.ofH hX.1 (by decide) rfl rfl (Nat.le_of_ble_eq_true rfl) ?_
  intro p e s m below meth c X XH I ls hl
  exact wX0_taxi_0 hX ⟨Nat.le_refl _, Nat.le_refl _⟩ X XH hS N _ _ _ _ _ _ _ _ _ _ I hl hf
/-! SharedTaxis$Taxi.account(I)I imp=False fuel=False kap=False rt=I thr=False -/
theorem gfX12_52 : ∀ q ∈ ([(10, 9)] : List (Nat × Nat)), GF RX12 52 q := List.forall_mem_cons.mpr ⟨⟨RX12, TX12, 15, _, rfl, in_X12, by decide, q941, Or.inl rfl⟩, fun _ h => by cases h⟩
theorem gfX12_55 : ∀ q ∈ ([(10, 10)] : List (Nat × Nat)), GF RX12 55 q := List.forall_mem_cons.mpr ⟨⟨RX12, TX12, 15, _, rfl, in_X12, by decide, q943, Or.inl rfl⟩, fun _ h => by cases h⟩
theorem gfX12_58 : ∀ q ∈ ([(10, 11)] : List (Nat × Nat)), GF RX12 58 q := List.forall_mem_cons.mpr ⟨⟨RX12, TX12, 15, _, rfl, in_X12, by decide, q945, Or.inl rfl⟩, fun _ h => by cases h⟩
theorem gfX12_61 : ∀ q ∈ ([(10, 12)] : List (Nat × Nat)), GF RX12 61 q := List.forall_mem_cons.mpr ⟨⟨RX12, TX12, 15, _, rfl, in_X12, by decide, q947, Or.inl rfl⟩, fun _ h => by cases h⟩
theorem gfX12_64 : ∀ q ∈ ([(10, 13)] : List (Nat × Nat)), GF RX12 64 q := List.forall_mem_cons.mpr ⟨⟨RX12, TX12, 15, _, rfl, in_X12, by decide, q950, Or.inl rfl⟩, fun _ h => by cases h⟩
theorem gfX12_67 : ∀ q ∈ ([(10, 14)] : List (Nat × Nat)), GF RX12 67 q := List.forall_mem_cons.mpr ⟨⟨RX12, TX12, 15, _, rfl, in_X12, by decide, q953, Or.inl rfl⟩, fun _ h => by cases h⟩
def fX12_account (σ : St) (x0 : Nat) (x1 : Int32) : Option Int32 := if x1 = 0 then (gI σ x0 [(10, 9)]).bind fun v_1 : Int32 => some v_1 else if x1 = 1 then (gI σ x0 [(10, 10)]).bind fun v_2 : Int32 => some v_2 else if x1 = 2 then (gI σ x0 [(10, 11)]).bind fun v_3 : Int32 => some v_3 else if x1 = 3 then (gI σ x0 [(10, 12)]).bind fun v_4 : Int32 => some v_4 else if x1 = 4 then (gI σ x0 [(10, 13)]).bind fun v_5 : Int32 => some v_5 else (gI σ x0 [(10, 14)]).bind fun v_6 : Int32 => some v_6
theorem wX12_account_0 {E : EV} {l : Launch} {p : Program} {e : Env} {s : State} {m : MethodId} {args : Array Value} {below : List Frame} {meth : Method} {c : Code} {R : Room} {σ : St} {res : Int32} (hX : XK E) (hR : 0 ≤ R.frames ∧ 0 ≤ R.locals) (X : MX E p s m args meth c cX12_account 2 (some .int) RX12 "account") : ∀ (x0 : Nat) (x1 : Int32) (H : Heap) (locs : List Loc) (cells slots : Nat) (ls : Array Slot), WI E R s σ H locs cells slots → lv_has ls 2 [(0, .ref x0), (1, .int x1)] → fX12_account σ x0 x1 = some res → W p l e R s m args below meth c H locs cells slots (MQ below (Qd E R.cells R.slots (some (.int res)) σ) args s R.cells R.slots (fr E)) (F0 m 0 ls []) := by
  intro x0 x1 H locs cells slots ls I hl hf
  obtain ⟨⟨hx, hb, hml, hown, hts⟩, -⟩ := id X
  unfold fX12_account at hf
  refine lv_iload_n hx hb dX12_account_0 rfl (lv_at hl 1 rfl) ?_
  by_cases c_1_0 : x1 = 0
  · have hf := ip c_1_0 hf
    refine lv_tableIn (off := 35) (tgt := 36) hx hb dX12_account_1 (by rw [c_1_0]; decide) (by rw [c_1_0]; decide) (by rw [c_1_0]; rfl) (by decide) ?_
    refine lv_aload_n hx hb dX12_account_36 rfl (lv_at hl 0 rfl) ?_
    obtain ⟨v_1, ev_1, hf⟩ := ob hf
    refine g_get X I gfX12_52 (gI_in ev_1) dX12_account_37 ?_
    refine lv_goto (tgt := 75) hx hb dX12_account_40 (by decide) ?_
    cases os hf
    exact r_iret X I dX12_account_75
  · have hf := im c_1_0 hf
    by_cases c_1_1 : x1 = 1
    · have hf := ip c_1_1 hf
      refine lv_tableIn (off := 42) (tgt := 43) hx hb dX12_account_1 (by rw [c_1_1]; decide) (by rw [c_1_1]; decide) (by rw [c_1_1]; rfl) (by decide) ?_
      refine lv_aload_n hx hb dX12_account_43 rfl (lv_at hl 0 rfl) ?_
      obtain ⟨v_2, ev_2, hf⟩ := ob hf
      refine g_get X I gfX12_55 (gI_in ev_2) dX12_account_44 ?_
      refine lv_goto (tgt := 75) hx hb dX12_account_47 (by decide) ?_
      cases os hf
      exact r_iret X I dX12_account_75
    · have hf := im c_1_1 hf
      by_cases c_1_2 : x1 = 2
      · have hf := ip c_1_2 hf
        refine lv_tableIn (off := 49) (tgt := 50) hx hb dX12_account_1 (by rw [c_1_2]; decide) (by rw [c_1_2]; decide) (by rw [c_1_2]; rfl) (by decide) ?_
        refine lv_aload_n hx hb dX12_account_50 rfl (lv_at hl 0 rfl) ?_
        obtain ⟨v_3, ev_3, hf⟩ := ob hf
        refine g_get X I gfX12_58 (gI_in ev_3) dX12_account_51 ?_
        refine lv_goto (tgt := 75) hx hb dX12_account_54 (by decide) ?_
        cases os hf
        exact r_iret X I dX12_account_75
      · have hf := im c_1_2 hf
        by_cases c_1_3 : x1 = 3
        · have hf := ip c_1_3 hf
          refine lv_tableIn (off := 56) (tgt := 57) hx hb dX12_account_1 (by rw [c_1_3]; decide) (by rw [c_1_3]; decide) (by rw [c_1_3]; rfl) (by decide) ?_
          refine lv_aload_n hx hb dX12_account_57 rfl (lv_at hl 0 rfl) ?_
          obtain ⟨v_4, ev_4, hf⟩ := ob hf
          refine g_get X I gfX12_61 (gI_in ev_4) dX12_account_58 ?_
          refine lv_goto (tgt := 75) hx hb dX12_account_61 (by decide) ?_
          cases os hf
          exact r_iret X I dX12_account_75
        · have hf := im c_1_3 hf
          by_cases c_1_4 : x1 = 4
          · have hf := ip c_1_4 hf
            refine lv_tableIn (off := 63) (tgt := 64) hx hb dX12_account_1 (by rw [c_1_4]; decide) (by rw [c_1_4]; decide) (by rw [c_1_4]; rfl) (by decide) ?_
            refine lv_aload_n hx hb dX12_account_64 rfl (lv_at hl 0 rfl) ?_
            obtain ⟨v_5, ev_5, hf⟩ := ob hf
            refine g_get X I gfX12_64 (gI_in ev_5) dX12_account_65 ?_
            refine lv_goto (tgt := 75) hx hb dX12_account_68 (by decide) ?_
            cases os hf
            exact r_iret X I dX12_account_75
          · have hf := im c_1_4 hf
            refine lv_tableOut (tgt := 71) hx hb dX12_account_1 (by exact sw_out 0 4 (fun k h1 h2 => by rcases (show k = 0 ∨ k = 1 ∨ k = 2 ∨ k = 3 ∨ k = 4 by omega) with rfl | rfl | rfl | rfl | rfl; exact c_1_0; exact c_1_1; exact c_1_2; exact c_1_3; exact c_1_4)) (by decide) ?_
            refine lv_aload_n hx hb dX12_account_71 rfl (lv_at hl 0 rfl) ?_
            obtain ⟨v_6, ev_6, hf⟩ := ob hf
            refine g_get X I gfX12_67 (gI_in ev_6) dX12_account_72 ?_
            cases os hf
            exact r_iret X I dX12_account_75
theorem mX12_account {E : EV} {l : Launch} {σ : St} {x0 : Nat} {x1 : Int32} {res : Int32} (hX : XK E) (hf : fX12_account σ x0 x1 = some res) : CM E l yX12_account (ws_ yX12_account cX12_account 2 (some .int)) 0 0 [.ref x0, .int x1] σ (some (.int res)) σ := by
  refine CM.of hX.1 (by decide) rfl rfl (Nat.le_of_ble_eq_true rfl) ?_
  intro p e s m below meth c X I ls hl
  exact wX12_account_0 hX ⟨Nat.le_refl _, Nat.le_refl _⟩ X _ _ _ _ _ _ _ I hl hf
/-! SharedTaxis.account(II)I imp=True fuel=False kap=False rt=I thr=True -/
theorem lvX1_271 : GoodIn lw_all (wsV RX1 271 RX12 yX12_account (ws_ yX12_account cX12_account 2 (some .int))) := lw_V q1621 q1622 q1623 q145 q1624
theorem hdX1_271 : yX12_account.cls = RX12 ∧ yX12_account.cls ≠ "java/lang/invoke/MethodHandle" ∧ yX12_account.cls ≠ "java/lang/invoke/VarHandle" ∧ (parseMethodDescriptor yX12_account.desc).map (fun d => d.parameters.length) = some 1 := by decide +kernel
def fX1_account (σ : St) (x0 : Nat) (x1 : Int32) (x2 : Int32) : Option ((Int32 ⊕ Nat) × St) := (isC σ x0 0).bind fun u_1 : Unit => (fX1_taxiAt σ x0 x1).bind fun (v_2, σ_3) => se v_2 (fun v_4 => (fX1_inRange σ_3 (x2.toInt64) (0 : Int64) (5 : Int64)).bind fun v_6 : Int32 => (fX1_requireExists σ_3 v_6).bind fun (v_8, σ_9) => se v_8 (fun v_10 => (isC σ_9 v_4 10).bind fun u_12 : Unit => (fX12_account σ_9 v_4 x2).bind fun v_13 : Int32 => some (.inl v_13, σ_9)) (fun q_11 => (isX σ_9 q_11).bind fun uq_11 : Unit => some (.inr q_11, σ_9))) (fun q_5 => (isX σ_3 q_5).bind fun uq_5 : Unit => some (.inr q_5, σ_3))
theorem wX1_account_0 {E : EV} {l : Launch} {p : Program} {e : Env} {s : State} {m : MethodId} {args : Array Value} {below : List Frame} {meth : Method} {c : Code} {R : Room} {res : ((Int32 ⊕ Nat) × St)} (hX : XK E) (hR : 8 ≤ R.frames ∧ 130 ≤ R.locals) (X : MX E p s m args meth c cX1_account 4 (some .int) RX1 "account") (XH : MH c []) (hS : l.stackTraces = false) : ∀ (x0 : Nat) (x1 : Int32) (x2 : Int32) (σ : St) (H : Heap) (locs : List Loc) (cells slots : Nat) (ls : Array Slot), WI E R s σ H locs cells slots → lv_has ls 4 [(0, .ref x0), (1, .int x1), (2, .int x2)] → fX1_account σ x0 x1 x2 = some res → W p l e R s m args below meth c H locs cells slots (vx_MQ below (QS E R.cells R.slots (sv (fun v => (some (.int v))) res.1) res.2) (XS E R.cells R.slots (sx res.1) res.2) args s R.cells R.slots (fr E)) (F0 m 0 ls []) := by
  intro x0 x1 x2 σ H locs cells slots ls I hl hf
  obtain ⟨⟨hx, hb, hml, hown, hts⟩, -⟩ := id X
  unfold fX1_account at hf
  refine lv_aload_n hx hb dX1_account_0 rfl (lv_at hl 0 rfl) ?_
  refine lv_iload_n hx hb dX1_account_1 rfl (lv_at hl 1 rfl) ?_
  obtain ⟨u_1, eu_1, hf⟩ := ob hf
  obtain ⟨⟨v_2, σ_3⟩, ev_2, hf⟩ := ob hf
  have hgv_2 := hf
  rcases v_2 with v_4 | q_5
  · have hf := se_l hgv_2
    refine cx_ret (r := (some (.ref v_4))) (rs := [.ref v_4]) I (xr_V (vw := (RX1, TX1, 7)) (ci := 0) (σ' := σ_3) (rest := []) (As := [.int x1]) X I eu_1 rfl (mX1_taxiAt hX hS ev_2) lvX1_238 hdX1_238 ⟨Nat.le_trans (Nat.le_of_ble_eq_true rfl) hR.1, Nat.le_trans (Nat.le_of_ble_eq_true rfl) hR.2⟩ rfl hl.1 rfl (Nat.le_of_ble_eq_true rfl) dX1_account_2) rfl (fun H locs cells slots I => ?_)
    refine lv_astore_n (lv' := [(3, .ref v_4), (0, .ref x0), (1, .int x1), (2, .int x2)]) hx hb dX1_account_5 rfl hl (by decide) rfl (fun ls hl => ?_)
    refine lv_iload_n hx hb dX1_account_6 rfl (lv_at hl 3 rfl) ?_
    refine lv_i2l hx hb dX1_account_7 rfl ?_
    refine lv_lconst (v := 0) hx hb dX1_account_8 (by decide) ?_
    refine lv_ldc2 (v := 5) hx hb hown (hts _ q1620) dX1_account_9 ?_
    obtain ⟨v_6, ev_6, hf⟩ := ob hf
    refine cg_S (r := (some (.int v_6))) (σ' := σ_3) (rs := [.int v_6]) (rest := []) (As := [.long (x2.toInt64), .long (0 : Int64), .long (5 : Int64)]) X I (mX1_inRange hX ev_6) lvX1_125 hdX1_125 ⟨Nat.le_trans (Nat.le_of_ble_eq_true rfl) hR.1, Nat.le_trans (Nat.le_of_ble_eq_true rfl) hR.2⟩ rfl hl.1 rfl (Nat.le_of_ble_eq_true rfl) rfl dX1_account_12 (fun H locs cells slots I => ?_)
    obtain ⟨⟨v_8, σ_9⟩, ev_8, hf⟩ := ob hf
    have hgv_8 := hf
    rcases v_8 with v_10 | q_11
    · have hf := se_l hgv_8
      refine cx_ret (r := none) (rs := []) I (xr_S (σ' := σ_9) (rest := []) (As := [.int v_6]) X I (mX1_requireExists hX hS ev_8) lvX1_129 hdX1_129 ⟨Nat.le_trans (Nat.le_of_ble_eq_true rfl) hR.1, Nat.le_trans (Nat.le_of_ble_eq_true rfl) hR.2⟩ rfl hl.1 rfl (Nat.le_of_ble_eq_true rfl) dX1_account_15) rfl (fun H locs cells slots I => ?_)
      refine lv_aload_n hx hb dX1_account_18 rfl (lv_at hl 0 rfl) ?_
      refine lv_iload_n hx hb dX1_account_19 rfl (lv_at hl 3 rfl) ?_
      obtain ⟨u_12, eu_12, hf⟩ := ob hf
      obtain ⟨v_13, ev_13, hf⟩ := ob hf
      refine cg_V (vw := (RX12, TX12, 15)) (ci := 10) (r := (some (.int v_13))) (σ' := σ_9) (rs := [.int v_13]) (rest := []) (As := [.int x2]) X I eu_12 rfl (mX12_account hX ev_13) lvX1_271 hdX1_271 ⟨Nat.le_trans (Nat.le_of_ble_eq_true rfl) hR.1, Nat.le_trans (Nat.le_of_ble_eq_true rfl) hR.2⟩ rfl hl.1 rfl (Nat.le_of_ble_eq_true rfl) rfl dX1_account_20 (fun H locs cells slots I => ?_)
      cases os hf
      exact x_ret (r_iret X I dX1_account_23)
    · have hf := se_r hgv_8
      obtain ⟨uq_11, eq_11, hf⟩ := ob hf
      cases os hf
      refine cx_thr I (xr_S (σ' := σ_9) (rest := []) (As := [.int v_6]) X I (mX1_requireExists hX hS ev_8) lvX1_129 hdX1_129 ⟨Nat.le_trans (Nat.le_of_ble_eq_true rfl) hR.1, Nat.le_trans (Nat.le_of_ble_eq_true rfl) hR.2⟩ rfl hl.1 rfl (Nat.le_of_ble_eq_true rfl) dX1_account_15) (fun H locs cells slots I => ?_)
      exact x_out X XH rfl I eq_11
  · have hf := se_r hgv_2
    obtain ⟨uq_5, eq_5, hf⟩ := ob hf
    cases os hf
    refine cx_thr I (xr_V (vw := (RX1, TX1, 7)) (ci := 0) (σ' := σ_3) (rest := []) (As := [.int x1]) X I eu_1 rfl (mX1_taxiAt hX hS ev_2) lvX1_238 hdX1_238 ⟨Nat.le_trans (Nat.le_of_ble_eq_true rfl) hR.1, Nat.le_trans (Nat.le_of_ble_eq_true rfl) hR.2⟩ rfl hl.1 rfl (Nat.le_of_ble_eq_true rfl) dX1_account_2) (fun H locs cells slots I => ?_)
    exact x_out X XH rfl I eq_5
theorem mX1_account {E : EV} {l : Launch} {σ : St} {x0 : Nat} {x1 : Int32} {x2 : Int32} {res : ((Int32 ⊕ Nat) × St)} (hX : XK E) (hS : l.stackTraces = false) (hf : fX1_account σ x0 x1 x2 = some res) : CX E l yX1_account (ws_ yX1_account cX1_account 4 (some .int)) 8 130 [.ref x0, .int x1, .int x2] σ (sv (fun v => (some (.int v))) res.1) (sx res.1) res.2 := by
  refine CX.of hX.1 (by decide) rfl rfl (Nat.le_of_ble_eq_true rfl) ?_
  intro p e s m below meth c X XH I ls hl
  exact wX1_account_0 hX ⟨Nat.le_refl _, Nat.le_refl _⟩ X XH hS _ _ _ _ _ _ _ _ _ I hl hf
/-! SharedTaxisLaw.account(LSharedTaxis;II[J)I imp=True fuel=False kap=False rt=I thr=False -/
theorem lvX0_30 : GoodIn lw_all (wsV RX0 30 RX1 yX1_account (ws_ yX1_account cX1_account 4 (some .int))) := lw_V q1616 q1617 q1618 q113 q1619
theorem hdX0_30 : yX1_account.cls = RX1 ∧ yX1_account.cls ≠ "java/lang/invoke/MethodHandle" ∧ yX1_account.cls ≠ "java/lang/invoke/VarHandle" ∧ (parseMethodDescriptor yX1_account.desc).map (fun d => d.parameters.length) = some 2 := by decide +kernel
def fX0_account (σ : St) (x0 : Nat) (x1 : Int32) (x2 : Int32) (x3 : Nat) : Option (Int32 × St) := (isC σ x0 0).bind fun u_1 : Unit => (fX1_account σ x0 x1 x2).bind fun (v_2, σ_3) => se v_2 (fun v_4 => (sJ σ_3 x3 (0 : Int32) (v_4.toInt64)).bind fun σ_6 : St => some ((0 : Int32), σ_6)) (fun q_5 => (clsX σ_3 q_5).bind fun c_7 : Nat => if c_7 = 34 then some ((1 : Int32), σ_3) else none)
theorem wX0_account_0 {E : EV} {l : Launch} {p : Program} {e : Env} {s : State} {m : MethodId} {args : Array Value} {below : List Frame} {meth : Method} {c : Code} {R : Room} {res : (Int32 × St)} (hX : XK E) (hR : 9 ≤ R.frames ∧ 153 ≤ R.locals) (X : MX E p s m args meth c cX0_account 5 (some .int) RX0 "account") (XH : MH c [(0, 10, 13, 18)]) (hS : l.stackTraces = false) : ∀ (x0 : Nat) (x1 : Int32) (x2 : Int32) (x3 : Nat) (σ : St) (H : Heap) (locs : List Loc) (cells slots : Nat) (ls : Array Slot), WI E R s σ H locs cells slots → lv_has ls 5 [(0, .ref x0), (1, .int x1), (2, .int x2), (3, .ref x3)] → fX0_account σ x0 x1 x2 x3 = some res → W p l e R s m args below meth c H locs cells slots (vx_MQ below (QS E R.cells R.slots (some (some (.int res.1))) res.2) (XS E R.cells R.slots none res.2) args s R.cells R.slots (fr E)) (F0 m 0 ls []) := by
  intro x0 x1 x2 x3 σ H locs cells slots ls I hl hf
  obtain ⟨⟨hx, hb, hml, hown, hts⟩, -⟩ := id X
  unfold fX0_account at hf
  refine lv_aload_n hx hb dX0_account_0 rfl (lv_at hl 3 rfl) ?_
  refine lv_iconst (v := 0) hx hb dX0_account_1 (by decide) ?_
  refine lv_aload_n hx hb dX0_account_2 rfl (lv_at hl 0 rfl) ?_
  refine lv_iload_n hx hb dX0_account_3 rfl (lv_at hl 1 rfl) ?_
  refine lv_iload_n hx hb dX0_account_4 rfl (lv_at hl 2 rfl) ?_
  obtain ⟨u_1, eu_1, hf⟩ := ob hf
  obtain ⟨⟨v_2, σ_3⟩, ev_2, hf⟩ := ob hf
  have hgv_2 := hf
  rcases v_2 with v_4 | q_5
  · have hf := se_l hgv_2
    refine cx_ret (r := (some (.int v_4))) (rs := [.int v_4, .int (0 : Int32), .ref x3]) I (xr_V (vw := (RX1, TX1, 7)) (ci := 0) (σ' := σ_3) (rest := [.int (0 : Int32), .ref x3]) (As := [.int x1, .int x2]) X I eu_1 rfl (mX1_account hX hS ev_2) lvX0_30 hdX0_30 ⟨Nat.le_trans (Nat.le_of_ble_eq_true rfl) hR.1, Nat.le_trans (Nat.le_of_ble_eq_true rfl) hR.2⟩ rfl hl.1 rfl (Nat.le_of_ble_eq_true rfl) dX0_account_5) rfl (fun H locs cells slots I => ?_)
    refine lv_i2l hx hb dX0_account_8 rfl ?_
    obtain ⟨σ_6, eσ_6, hf⟩ := ob hf
    refine g_last X I eσ_6 dX0_account_9 (fun H locs I => ?_)
    refine lv_goto (tgt := 17) hx hb dX0_account_10 (by decide) ?_
    refine lv_iconst (v := 0) hx hb dX0_account_17 (by decide) ?_
    cases os hf
    exact x_ret (r_iret X I dX0_account_18)
  · have hf := se_r hgv_2
    obtain ⟨c_7, ec_7, hf⟩ := ob hf
    refine cx_thr I (xr_V (vw := (RX1, TX1, 7)) (ci := 0) (σ' := σ_3) (rest := [.int (0 : Int32), .ref x3]) (As := [.int x1, .int x2]) X I eu_1 rfl (mX1_account hX hS ev_2) lvX0_30 hdX0_30 ⟨Nat.le_trans (Nat.le_of_ble_eq_true rfl) hR.1, Nat.le_trans (Nat.le_of_ble_eq_true rfl) hR.2⟩ rfl hl.1 rfl (Nat.le_of_ble_eq_true rfl) dX0_account_5) (fun H locs cells slots I => ?_)
    by_cases cc_7_E22 : c_7 = 34
    · have hf := ip cc_7_E22 hf
      refine x_catch (vw := (RJ22, TJ22, 0)) hX X XH I (cc_7_E22 ▸ ec_7) rfl ((tableOf [(0, 10, 13, 18)]).take 0) _ _ rfl (fun z hz => nomatch hz) rfl (by decide) q1558 q417 ?_
      refine lv_astore (lv' := [(4, .ref q_5), (0, .ref x0), (1, .int x1), (2, .int x2), (3, .ref x3)]) hx hb dX0_account_13 hl (by decide) rfl (fun ls hl => ?_)
      refine lv_iconst (v := 1) hx hb dX0_account_15 (by decide) ?_
      cases os hf
      exact x_ret (r_iret X I dX0_account_16)
    · have hf := im cc_7_E22 hf
      exact nomatch hf
theorem mX0_account {E : EV} {l : Launch} {σ : St} {x0 : Nat} {x1 : Int32} {x2 : Int32} {x3 : Nat} {res : (Int32 × St)} (hX : XK E) (hS : l.stackTraces = false) (hf : fX0_account σ x0 x1 x2 x3 = some res) : CX E l yX0_account (wsW_ yX0_account cX0_account 5 (some .int) [(0, 10, 13, 18)]) 9 153 [.ref x0, .int x1, .int x2, .ref x3] σ (some (some (.int res.1))) none res.2 := by
  refine CX.ofH hX.1 (by decide) rfl rfl (Nat.le_of_ble_eq_true rfl) ?_
  intro p e s m below meth c X XH I ls hl
  exact wX0_account_0 hX ⟨Nat.le_refl _, Nat.le_refl _⟩ X XH hS _ _ _ _ _ _ _ _ _ _ I hl hf
/-! SharedTaxis$Walk.<init>(LSharedTaxis$State;)V imp=True fuel=False kap=False rt=None thr=False -/
theorem pfX13_9 : ∀ q ∈ ([(11, 16)] : List (Nat × Nat)), PI RX13 9 (.array .int) q := List.forall_mem_cons.mpr ⟨⟨RX13, TX13, 17, tyX13, rfl, in_X13, by decide, q1673, rfl, tyX13_ok, nmX13, rfl, rfl⟩, fun _ h => by cases h⟩
theorem pfX13_15 : ∀ q ∈ ([(11, 0)] : List (Nat × Nat)), PI RX13 15 (.object "SharedTaxis$State") q := List.forall_mem_cons.mpr ⟨⟨RX13, TX13, 17, tyX13, rfl, in_X13, by decide, q1638, rfl, tyX13_ok, nmX13, rfl, rfl⟩, fun _ h => by cases h⟩
def fX13_init (σ : St) (x0 : Nat) (x1 : Nat) : Option St := (an (24 : Int32)).bind fun k_1 : Nat => (nH σ k_1 (.inl (0, z0 0 k_1))).bind fun (q_2a, q_2s) => (pV q_2s x0 [(11, 16)] (.ref q_2a)).bind fun σ_3 : St => (pV σ_3 x0 [(11, 0)] (.ref x1)).bind fun σ_4 : St => some σ_4
theorem wX13_init_0 {E : EV} {l : Launch} {p : Program} {e : Env} {s : State} {m : MethodId} {args : Array Value} {below : List Frame} {meth : Method} {c : Code} {R : Room} {res : St} (hX : XK E) (hR : 1 ≤ R.frames ∧ 20 ≤ R.locals) (X : MX E p s m args meth c cX13_init 2 none RX13 "<init>") : ∀ (x0 : Nat) (x1 : Nat) (σ : St) (H : Heap) (locs : List Loc) (cells slots : Nat) (ls : Array Slot), WI E R s σ H locs cells slots → lv_has ls 2 [(0, .ref x0), (1, .ref x1)] → fX13_init σ x0 x1 = some res → W p l e R s m args below meth c H locs cells slots (MQ below (Qd E R.cells R.slots none res) args s R.cells R.slots (fr E)) (F0 m 0 ls []) := by
  intro x0 x1 σ H locs cells slots ls I hl hf
  obtain ⟨⟨hx, hb, hml, hown, hts⟩, -⟩ := id X
  unfold fX13_init at hf
  refine lv_aload_n hx hb dX13_init_0 rfl (lv_at hl 0 rfl) ?_
  refine g_objInit X ⟨Nat.le_trans (Nat.le_of_ble_eq_true rfl) hR.1, Nat.le_trans (Nat.le_of_ble_eq_true rfl) hR.2⟩ q1637 hl.1 (Nat.le_of_ble_eq_true rfl) dX13_init_1 ?_
  refine lv_aload_n hx hb dX13_init_4 rfl (lv_at hl 0 rfl) ?_
  refine lv_bipush (v := 24) hx hb dX13_init_5 (by decide) ?_
  obtain ⟨k_1, ek_1, hf⟩ := ob hf
  obtain ⟨⟨q_2a, q_2s⟩, eq_2, hf⟩ := ob hf
  refine g_newa (atype := .int) (t := 0) X I (by decide) rfl q198 ek_1 eq_2 dX13_init_7 (fun H locs cells slots I => ?_)
  obtain ⟨σ_3, eσ_3, hf⟩ := ob hf
  refine g_putI X I pfX13_9 rfl rfl eσ_3 dX13_init_9 (fun H locs I => ?_)
  refine lv_aload_n hx hb dX13_init_12 rfl (lv_at hl 0 rfl) ?_
  refine lv_aload_n hx hb dX13_init_13 rfl (lv_at hl 1 rfl) ?_
  obtain ⟨σ_4, eσ_4, hf⟩ := ob hf
  refine g_putI X I pfX13_15 rfl rfl eσ_4 dX13_init_14 (fun H locs I => ?_)
  cases os hf
  exact r_vret X I dX13_init_17
theorem mX13_init {E : EV} {l : Launch} {σ : St} {x0 : Nat} {x1 : Nat} {res : St} (hX : XK E) (hf : fX13_init σ x0 x1 = some res) : CM E l yX13_init (ws_ yX13_init cX13_init 2 none) 1 20 [.ref x0, .ref x1] σ none res := by
  refine CM.of hX.1 (by decide) rfl rfl (Nat.le_of_ble_eq_true rfl) ?_
  intro p e s m below meth c X I ls hl
  exact wX13_init_0 hX ⟨Nat.le_refl _, Nat.le_refl _⟩ X _ _ _ _ _ _ _ _ I hl hf
/-! SharedTaxis$Walk.begin(LSharedTaxis$Taxi;Ljava/util/List;)LSharedTaxis$Walk; imp=True fuel=True kap=False rt=N thr=False -/
theorem gfX13_58 : ∀ q ∈ ([(10, 8)] : List (Nat × Nat)), GN RX13 58 q := List.forall_mem_cons.mpr ⟨⟨RX12, TX12, 15, _, rfl, in_X12, by decide, q936⟩, fun _ h => by cases h⟩
theorem lvX13_61_J2 : GoodIn lw_all (va_wsF RX13 61 RJ2 ⟨"java/util/List", "size", "()I"⟩ yJ2_size (ws_ yJ2_size cJ2_size 1 (some .int))) ∧ (RJ2, ⟨"java/util/List", "size", "()I"⟩, yJ2_size) ∈ FWL := ⟨lw_good (List.forall_mem_cons.mpr ⟨q1715, List.forall_mem_cons.mpr ⟨q381, List.forall_mem_cons.mpr ⟨q383, List.forall_mem_cons.mpr ⟨q118, fun w h => (lw_meth q385 w h).1⟩⟩⟩⟩), List.mem_of_getElem? (i := 16) rfl⟩
theorem hdX13_61_J2 : (⟨"java/util/List", "size", "()I"⟩ : MethodName).cls ≠ "java/lang/invoke/MethodHandle" ∧ (⟨"java/util/List", "size", "()I"⟩ : MethodName).cls ≠ "java/lang/invoke/VarHandle" ∧ (parseMethodDescriptor (⟨"java/util/List", "size", "()I"⟩ : MethodName).desc).map (fun d => d.parameters.length) = some 0 := by decide +kernel
theorem gfX13_9 : ∀ q ∈ ([(11, 16)] : List (Nat × Nat)), GF RX13 9 q := List.forall_mem_cons.mpr ⟨⟨RX13, TX13, 17, _, rfl, in_X13, by decide, q1673, Or.inl rfl⟩, fun _ h => by cases h⟩
theorem lvX13_67_J2 : GoodIn lw_all (va_wsF RX13 67 RJ2 ⟨"java/util/List", "get", "(I)Ljava/lang/Object;"⟩ yJ2_get (ws_ yJ2_get cJ2_get 2 (some (.object "java/lang/Object")))) ∧ (RJ2, ⟨"java/util/List", "get", "(I)Ljava/lang/Object;"⟩, yJ2_get) ∈ FWL := ⟨lw_good (List.forall_mem_cons.mpr ⟨q1717, List.forall_mem_cons.mpr ⟨q489, List.forall_mem_cons.mpr ⟨q491, List.forall_mem_cons.mpr ⟨q118, fun w h => (lw_meth q493 w h).1⟩⟩⟩⟩), List.mem_of_getElem? (i := 10) rfl⟩
theorem hdX13_67_J2 : (⟨"java/util/List", "get", "(I)Ljava/lang/Object;"⟩ : MethodName).cls ≠ "java/lang/invoke/MethodHandle" ∧ (⟨"java/util/List", "get", "(I)Ljava/lang/Object;"⟩ : MethodName).cls ≠ "java/lang/invoke/VarHandle" ∧ (parseMethodDescriptor (⟨"java/util/List", "get", "(I)Ljava/lang/Object;"⟩ : MethodName).desc).map (fun d => d.parameters.length) = some 1 := by decide +kernel
theorem lvX13_73 : GoodIn lw_all (wsV RX13 73 RJ18 yJ18_intValue (ws_ yJ18_intValue cJ18_intValue 1 (some .int))) := lw_V q1719 q1610 q1611 q138 q1612
theorem hdX13_73 : yJ18_intValue.cls = RJ18 ∧ yJ18_intValue.cls ≠ "java/lang/invoke/MethodHandle" ∧ yJ18_intValue.cls ≠ "java/lang/invoke/VarHandle" ∧ (parseMethodDescriptor yJ18_intValue.desc).map (fun d => d.parameters.length) = some 0 := by decide +kernel
theorem gfX13_15 : ∀ q ∈ ([(11, 0)] : List (Nat × Nat)), GF RX13 15 q := List.forall_mem_cons.mpr ⟨⟨RX13, TX13, 17, _, rfl, in_X13, by decide, q1638, Or.inl rfl⟩, fun _ h => by cases h⟩
theorem gfX13_76 : ∀ q ∈ ([(1, 6)] : List (Nat × Nat)), GN RX13 76 q := List.forall_mem_cons.mpr ⟨⟨RX2, TX2, 7, _, rfl, in_X2, by decide, q259⟩, fun _ h => by cases h⟩
theorem gfX13_81 : ∀ q ∈ ([(14, 10)] : List (Nat × Nat)), GN RX13 81 q := List.forall_mem_cons.mpr ⟨⟨RX16, TX16, 15, _, rfl, in_X16, by decide, q1136⟩, fun _ h => by cases h⟩
theorem pfX13_19 : ∀ q ∈ ([(11, 1)] : List (Nat × Nat)), PF RX13 19 (.object "SharedTaxis$Taxi") q := List.forall_mem_cons.mpr ⟨⟨RX13, TX13, 17, _, tyX13, rfl, in_X13, by decide, q1639, Or.inl rfl, tyX13_ok, nmX13, rfl, rfl⟩, fun _ h => by cases h⟩
theorem pfX13_23 : ∀ q ∈ ([(11, 2)] : List (Nat × Nat)), PF RX13 23 (.object "java/util/List") q := List.forall_mem_cons.mpr ⟨⟨RX13, TX13, 17, _, tyX13, rfl, in_X13, by decide, q1640, Or.inl rfl, tyX13_ok, nmX13, rfl, rfl⟩, fun _ h => by cases h⟩
theorem pfX13_27 : ∀ q ∈ ([(11, 3)] : List (Nat × Nat)), PF RX13 27 .int q := List.forall_mem_cons.mpr ⟨⟨RX13, TX13, 17, _, tyX13, rfl, in_X13, by decide, q1641, Or.inl rfl, tyX13_ok, nmX13, rfl, rfl⟩, fun _ h => by cases h⟩
theorem gfX13_31 : ∀ q ∈ ([(10, 2)] : List (Nat × Nat)), GN RX13 31 q := List.forall_mem_cons.mpr ⟨⟨RX12, TX12, 15, _, rfl, in_X12, by decide, q911⟩, fun _ h => by cases h⟩
theorem pfX13_36 : ∀ q ∈ ([(11, 4)] : List (Nat × Nat)), PF RX13 36 .int q := List.forall_mem_cons.mpr ⟨⟨RX13, TX13, 17, _, tyX13, rfl, in_X13, by decide, q1643, Or.inl rfl, tyX13_ok, nmX13, rfl, rfl⟩, fun _ h => by cases h⟩
theorem gfX13_37 : ∀ q ∈ ([(10, 3)] : List (Nat × Nat)), GN RX13 37 q := List.forall_mem_cons.mpr ⟨⟨RX12, TX12, 15, _, rfl, in_X12, by decide, q915⟩, fun _ h => by cases h⟩
theorem pfX13_40 : ∀ q ∈ ([(11, 5)] : List (Nat × Nat)), PF RX13 40 .int q := List.forall_mem_cons.mpr ⟨⟨RX13, TX13, 17, _, tyX13, rfl, in_X13, by decide, q1646, Or.inl rfl, tyX13_ok, nmX13, rfl, rfl⟩, fun _ h => by cases h⟩
theorem gfX13_41 : ∀ q ∈ ([(10, 5)] : List (Nat × Nat)), GN RX13 41 q := List.forall_mem_cons.mpr ⟨⟨RX12, TX12, 15, _, rfl, in_X12, by decide, q922⟩, fun _ h => by cases h⟩
theorem pfX13_44 : ∀ q ∈ ([(11, 13)] : List (Nat × Nat)), PF RX13 44 .int q := List.forall_mem_cons.mpr ⟨⟨RX13, TX13, 17, _, tyX13, rfl, in_X13, by decide, q1669, Or.inl rfl, tyX13_ok, nmX13, rfl, rfl⟩, fun _ h => by cases h⟩
theorem lvX13_45 : GoodIn lw_all (wsV RX13 45 RX2 yX2_personsIn (ws_ yX2_personsIn cX2_personsIn 4 (some .int))) := lw_V q1713 q1605 q1606 q114 q1607
theorem hdX13_45 : yX2_personsIn.cls = RX2 ∧ yX2_personsIn.cls ≠ "java/lang/invoke/MethodHandle" ∧ yX2_personsIn.cls ≠ "java/lang/invoke/VarHandle" ∧ (parseMethodDescriptor yX2_personsIn.desc).map (fun d => d.parameters.length) = some 1 := by decide +kernel
theorem pfX13_51 : ∀ q ∈ ([(11, 6)] : List (Nat × Nat)), PF RX13 51 .int q := List.forall_mem_cons.mpr ⟨⟨RX13, TX13, 17, _, tyX13, rfl, in_X13, by decide, q1647, Or.inl rfl, tyX13_ok, nmX13, rfl, rfl⟩, fun _ h => by cases h⟩
theorem pfX13_54 : ∀ q ∈ ([(11, 15)] : List (Nat × Nat)), PF RX13 54 .boolean q := List.forall_mem_cons.mpr ⟨⟨RX13, TX13, 17, _, tyX13, rfl, in_X13, by decide, q1672, Or.inl rfl, tyX13_ok, nmX13, rfl, rfl⟩, fun _ h => by cases h⟩
def fX13_begin_58 (N : Nat) : Nat → Nat → Nat → Int32 → St → Option (Nat × St)
  | 0, _, _, _, _ => none
  | n + 1, x0, x1, x3, σ => (gR σ x1 [(10, 8)]).bind fun v_1 : Option Nat => (v_1).bind fun a_2 : Nat => (isC σ a_2 21).bind fun u_3 : Unit => (fJ2_size σ a_2).bind fun v_4 : Int32 => if v_4 ≤ x3 then some ((x0), σ) else (gR σ x0 [(11, 16)]).bind fun v_6 : Option Nat => (gR σ x1 [(10, 8)]).bind fun v_7 : Option Nat => (v_7).bind fun a_8 : Nat => (isC σ a_8 21).bind fun u_9 : Unit => (fJ2_get σ a_8 x3).bind fun v_10 : Option Nat => (v_10).bind fun a_12 : Nat => (isC σ a_12 27).bind fun u_13 : Unit => (isC σ a_12 27).bind fun u_14 : Unit => (fJ18_intValue σ a_12).bind fun v_15 : Int32 => (gR σ x0 [(11, 0)]).bind fun v_17 : Option Nat => (v_17).bind fun a_18 : Nat => (gR σ a_18 [(1, 6)]).bind fun v_19 : Option Nat => (gR σ x1 [(10, 8)]).bind fun v_20 : Option Nat => (v_20).bind fun a_21 : Nat => (isC σ a_21 21).bind fun u_22 : Unit => (fJ2_get σ a_21 x3).bind fun v_23 : Option Nat => (v_23).bind fun a_25 : Nat => (isC σ a_25 27).bind fun u_26 : Unit => (isC σ a_25 27).bind fun u_27 : Unit => (fJ18_intValue σ a_25).bind fun v_28 : Int32 => (v_19).bind fun a_30 : Nat => (isC σ a_30 21).bind fun u_31 : Unit => (fJ2_get σ a_30 v_28).bind fun v_32 : Option Nat => (v_32).bind fun a_34 : Nat => (isC σ a_34 14).bind fun u_35 : Unit => (gI σ a_34 [(14, 10)]).bind fun v_36 : Int32 => (v_6).bind fun a_37 : Nat => (sI σ a_37 0 v_15 v_36).bind fun σ_38 : St => lt (x3 + 1) fun x3_39 : Int32 => fX13_begin_58 N n x0 x1 x3_39 σ_38
def fX13_begin (N : Nat) (σ : St) (x0 : Nat) (x1 : Nat) (x2 : Nat) : Option (Nat × St) := (pV σ x0 [(11, 1)] (.ref x1)).bind fun σ_40 : St => (pV σ_40 x0 [(11, 2)] (.ref x2)).bind fun σ_41 : St => (pV σ_41 x0 [(11, 3)] (.int (0 : Int32))).bind fun σ_42 : St => (gI σ_42 x1 [(10, 2)]).bind fun v_43 : Int32 => (pV σ_42 x0 [(11, 4)] (.int v_43)).bind fun σ_44 : St => (gI σ_44 x1 [(10, 3)]).bind fun v_45 : Int32 => (pV σ_44 x0 [(11, 5)] (.int v_45)).bind fun σ_46 : St => (gI σ_46 x1 [(10, 5)]).bind fun v_47 : Int32 => (pV σ_46 x0 [(11, 13)] (.int v_47)).bind fun σ_48 : St => (gR σ_48 x0 [(11, 0)]).bind fun v_49 : Option Nat => (v_49).bind fun a_50 : Nat => (isC σ_48 a_50 1).bind fun u_51 : Unit => (fX2_personsIn N σ_48 a_50 x1).bind fun v_52 : Int32 => (pV σ_48 x0 [(11, 6)] (.int v_52)).bind fun σ_54 : St => (pV σ_54 x0 [(11, 15)] (.int (0 : Int32))).bind fun σ_55 : St => fX13_begin_58 N N x0 x1 (0 : Int32) σ_55
theorem wX13_begin_58 {E : EV} {l : Launch} {p : Program} {e : Env} {s : State} {m : MethodId} {args : Array Value} {below : List Frame} {meth : Method} {c : Code} {R : Room} {res : (Nat × St)} (hX : XK E) (hR : 4 ≤ R.frames ∧ 87 ≤ R.locals) (X : MX E p s m args meth c cX13_begin 4 (some (.object "SharedTaxis$Walk")) RX13 "begin") (N : Nat) : ∀ (n : Nat) (x0 : Nat) (x1 : Nat) (x3 : Int32) (σ : St) (H : Heap) (locs : List Loc) (cells slots : Nat) (ls : Array Slot), WI E R s σ H locs cells slots → lv_has ls 4 [(0, .ref x0), (1, .ref x1), (3, .int x3)] → fX13_begin_58 N n x0 x1 x3 σ = some res → W p l e R s m args below meth c H locs cells slots (MQ below (Qd E R.cells R.slots (some (.ref res.1)) res.2) args s R.cells R.slots (fr E)) (F0 m 58 ls []) := by
  intro n
  induction n with
  | zero => intro x0 x1 x3 σ H locs cells slots ls I hl hf; exact nomatch (show none = some res from hf)
  | succ n ih =>
    intro x0 x1 x3 σ H locs cells slots ls I hl hf
    obtain ⟨⟨hx, hb, hml, hown, hts⟩, -⟩ := id X
    rw [fX13_begin_58.eq_2] at hf
    refine lv_iload_n hx hb dX13_begin_58 rfl (lv_at hl 2 rfl) ?_
    refine lv_aload_n hx hb dX13_begin_59 rfl (lv_at hl 1 rfl) ?_
    obtain ⟨v_1, ev_1, hf⟩ := ob hf
    refine g_getN hX X I gfX13_58 (gR_in ev_1) dX13_begin_60 ?_
    obtain ⟨a_2, ea_2, hga_2⟩ := ob hf
    have hla_2 := hl
    have Ia_2 := I
    subst ea_2
    have hf := hga_2
    have hl := hla_2
    have I := Ia_2
    obtain ⟨u_3, eu_3, hf⟩ := ob hf
    obtain ⟨v_4, ev_4, hf⟩ := ob hf
    refine cg_F (vw := (RJ2, TJ2, 3)) (ci := 21) (r := (some (.int v_4))) (σ' := σ) (rs := [.int v_4, .int x3]) (rest := [.int x3]) (As := []) hX X I eu_3 rfl (mJ2_size hX ev_4) lvX13_61_J2 hdX13_61_J2 ⟨Nat.le_trans (Nat.le_of_ble_eq_true rfl) hR.1, Nat.le_trans (Nat.le_of_ble_eq_true rfl) hR.2⟩ rfl hl.1 rfl (Nat.le_of_ble_eq_true rfl) rfl dX13_begin_63 (fun H locs cells slots I => ?_)
    refine lv_icmp_ge (tgt := 132) hx hb dX13_begin_68 (by decide) (fun c_68 => ?_) (fun c_68 => ?_)
    · have hf := ip c_68 hf
      refine lv_aload_n hx hb dX13_begin_132 rfl (lv_at hl 0 rfl) ?_
      cases os hf
      exact r_aret X I (Or.inl ⟨_, rfl⟩) (Or.inr ⟨_, rfl⟩) dX13_begin_133
    · have hf := im c_68 hf
      refine lv_aload_n hx hb dX13_begin_71 rfl (lv_at hl 0 rfl) ?_
      obtain ⟨v_6, ev_6, hf⟩ := ob hf
      refine g_get X I gfX13_9 (gR_in ev_6) dX13_begin_72 ?_
      refine lv_aload_n hx hb dX13_begin_75 rfl (lv_at hl 1 rfl) ?_
      obtain ⟨v_7, ev_7, hf⟩ := ob hf
      refine g_getN hX X I gfX13_58 (gR_in ev_7) dX13_begin_76 ?_
      refine lv_iload_n hx hb dX13_begin_79 rfl (lv_at hl 2 rfl) ?_
      obtain ⟨a_8, ea_8, hga_8⟩ := ob hf
      have hla_8 := hl
      have Ia_8 := I
      subst ea_8
      have hf := hga_8
      have hl := hla_8
      have I := Ia_8
      obtain ⟨u_9, eu_9, hf⟩ := ob hf
      obtain ⟨v_10, ev_10, hf⟩ := ob hf
      refine cg_F (vw := (RJ2, TJ2, 3)) (ci := 21) (r := (some (va_rf v_10))) (σ' := σ) (rs := [va_rf v_10, va_rf v_6]) (rest := [va_rf v_6]) (As := [.int x3]) hX X I eu_9 rfl (mJ2_get hX ev_10) lvX13_67_J2 hdX13_67_J2 ⟨Nat.le_trans (Nat.le_of_ble_eq_true rfl) hR.1, Nat.le_trans (Nat.le_of_ble_eq_true rfl) hR.2⟩ rfl hl.1 rfl (by rcases v_6 with _ | _ <;> exact (Nat.le_of_ble_eq_true rfl)) rfl dX13_begin_80 (fun H locs cells slots I => ?_)
      obtain ⟨a_12, ea_12, hga_12⟩ := ob hf
      have hla_12 := hl
      have Ia_12 := I
      subst ea_12
      have hf := hga_12
      have hl := hla_12
      have I := Ia_12
      obtain ⟨u_13, eu_13, hf⟩ := ob hf
      refine g_cast (vw := (RJ18, TJ18, 1)) X I rfl q1718 eu_13 dX13_begin_85 ?_
      obtain ⟨u_14, eu_14, hf⟩ := ob hf
      obtain ⟨v_15, ev_15, hf⟩ := ob hf
      refine cg_V (vw := (RJ18, TJ18, 1)) (ci := 27) (r := (some (.int v_15))) (σ' := σ) (rs := [.int v_15, va_rf v_6]) (rest := [va_rf v_6]) (As := []) X I eu_14 rfl (mJ18_intValue hX ev_15) lvX13_73 hdX13_73 ⟨Nat.le_trans (Nat.le_of_ble_eq_true rfl) hR.1, Nat.le_trans (Nat.le_of_ble_eq_true rfl) hR.2⟩ rfl hl.1 rfl (by rcases v_6 with _ | _ <;> exact (Nat.le_of_ble_eq_true rfl)) rfl dX13_begin_88 (fun H locs cells slots I => ?_)
      refine lv_aload_n hx hb dX13_begin_91 rfl (lv_at hl 0 rfl) ?_
      obtain ⟨v_17, ev_17, hf⟩ := ob hf
      refine g_get X I gfX13_15 (gR_in ev_17) dX13_begin_92 ?_
      obtain ⟨a_18, ea_18, hga_18⟩ := ob hf
      have hla_18 := hl
      have Ia_18 := I
      subst ea_18
      have hf := hga_18
      have hl := hla_18
      have I := Ia_18
      obtain ⟨v_19, ev_19, hf⟩ := ob hf
      refine g_getN hX X I gfX13_76 (gR_in ev_19) dX13_begin_95 ?_
      refine lv_aload_n hx hb dX13_begin_98 rfl (lv_at hl 1 rfl) ?_
      obtain ⟨v_20, ev_20, hf⟩ := ob hf
      refine g_getN hX X I gfX13_58 (gR_in ev_20) dX13_begin_99 ?_
      refine lv_iload_n hx hb dX13_begin_102 rfl (lv_at hl 2 rfl) ?_
      obtain ⟨a_21, ea_21, hga_21⟩ := ob hf
      have hla_21 := hl
      have Ia_21 := I
      subst ea_21
      have hf := hga_21
      have hl := hla_21
      have I := Ia_21
      obtain ⟨u_22, eu_22, hf⟩ := ob hf
      obtain ⟨v_23, ev_23, hf⟩ := ob hf
      refine cg_F (vw := (RJ2, TJ2, 3)) (ci := 21) (r := (some (va_rf v_23))) (σ' := σ) (rs := [va_rf v_23, va_rf v_19, .int v_15, va_rf v_6]) (rest := [va_rf v_19, .int v_15, va_rf v_6]) (As := [.int x3]) hX X I eu_22 rfl (mJ2_get hX ev_23) lvX13_67_J2 hdX13_67_J2 ⟨Nat.le_trans (Nat.le_of_ble_eq_true rfl) hR.1, Nat.le_trans (Nat.le_of_ble_eq_true rfl) hR.2⟩ rfl hl.1 rfl (by rcases v_6 with _ | _ <;> rcases v_19 with _ | _ <;> exact (Nat.le_of_ble_eq_true rfl)) rfl dX13_begin_103 (fun H locs cells slots I => ?_)
      obtain ⟨a_25, ea_25, hga_25⟩ := ob hf
      have hla_25 := hl
      have Ia_25 := I
      subst ea_25
      have hf := hga_25
      have hl := hla_25
      have I := Ia_25
      obtain ⟨u_26, eu_26, hf⟩ := ob hf
      refine g_cast (vw := (RJ18, TJ18, 1)) X I rfl q1718 eu_26 dX13_begin_108 ?_
      obtain ⟨u_27, eu_27, hf⟩ := ob hf
      obtain ⟨v_28, ev_28, hf⟩ := ob hf
      refine cg_V (vw := (RJ18, TJ18, 1)) (ci := 27) (r := (some (.int v_28))) (σ' := σ) (rs := [.int v_28, va_rf v_19, .int v_15, va_rf v_6]) (rest := [va_rf v_19, .int v_15, va_rf v_6]) (As := []) X I eu_27 rfl (mJ18_intValue hX ev_28) lvX13_73 hdX13_73 ⟨Nat.le_trans (Nat.le_of_ble_eq_true rfl) hR.1, Nat.le_trans (Nat.le_of_ble_eq_true rfl) hR.2⟩ rfl hl.1 rfl (by rcases v_6 with _ | _ <;> rcases v_19 with _ | _ <;> exact (Nat.le_of_ble_eq_true rfl)) rfl dX13_begin_111 (fun H locs cells slots I => ?_)
      obtain ⟨a_30, ea_30, hga_30⟩ := ob hf
      have hla_30 := hl
      have Ia_30 := I
      subst ea_30
      have hf := hga_30
      have hl := hla_30
      have I := Ia_30
      obtain ⟨u_31, eu_31, hf⟩ := ob hf
      obtain ⟨v_32, ev_32, hf⟩ := ob hf
      refine cg_F (vw := (RJ2, TJ2, 3)) (ci := 21) (r := (some (va_rf v_32))) (σ' := σ) (rs := [va_rf v_32, .int v_15, va_rf v_6]) (rest := [.int v_15, va_rf v_6]) (As := [.int v_28]) hX X I eu_31 rfl (mJ2_get hX ev_32) lvX13_67_J2 hdX13_67_J2 ⟨Nat.le_trans (Nat.le_of_ble_eq_true rfl) hR.1, Nat.le_trans (Nat.le_of_ble_eq_true rfl) hR.2⟩ rfl hl.1 rfl (by rcases v_6 with _ | _ <;> exact (Nat.le_of_ble_eq_true rfl)) rfl dX13_begin_114 (fun H locs cells slots I => ?_)
      obtain ⟨a_34, ea_34, hga_34⟩ := ob hf
      have hla_34 := hl
      have Ia_34 := I
      subst ea_34
      have hf := hga_34
      have hl := hla_34
      have I := Ia_34
      obtain ⟨u_35, eu_35, hf⟩ := ob hf
      refine g_cast (vw := (RX16, TX16, 15)) X I rfl q1720 eu_35 dX13_begin_119 ?_
      obtain ⟨v_36, ev_36, hf⟩ := ob hf
      refine g_getN hX X I gfX13_81 (gI_in ev_36) dX13_begin_122 ?_
      obtain ⟨a_37, ea_37, hga_37⟩ := ob hf
      have hla_37 := hl
      have Ia_37 := I
      subst ea_37
      have hf := hga_37
      have hl := hla_37
      have I := Ia_37
      obtain ⟨σ_38, eσ_38, hf⟩ := ob hf
      refine g_iast X I eσ_38 dX13_begin_125 (fun H locs I => ?_)
      obtain ⟨x3_39, ex3_39, hf⟩ := ol hf
      refine lv_iinc (v := x3_39) (lv' := [(3, .int x3_39), (0, .ref x0), (1, .ref x1)]) hx hb dX13_begin_126 hl (k := 2) rfl ex3_39 (by decide) rfl (fun ls hl => ?_)
      refine lv_goto (tgt := 58) hx hb dX13_begin_129 (by decide) ?_
      exact ih x0 x1 x3_39 σ_38 _ _ _ _ _ I (lv_sub hl [1, 2, 0] rfl) hf
theorem wX13_begin_0 {E : EV} {l : Launch} {p : Program} {e : Env} {s : State} {m : MethodId} {args : Array Value} {below : List Frame} {meth : Method} {c : Code} {R : Room} {res : (Nat × St)} (hX : XK E) (hR : 4 ≤ R.frames ∧ 87 ≤ R.locals) (X : MX E p s m args meth c cX13_begin 4 (some (.object "SharedTaxis$Walk")) RX13 "begin") (N : Nat) : ∀ (x0 : Nat) (x1 : Nat) (x2 : Nat) (σ : St) (H : Heap) (locs : List Loc) (cells slots : Nat) (ls : Array Slot), WI E R s σ H locs cells slots → lv_has ls 4 [(0, .ref x0), (1, .ref x1), (2, .ref x2)] → fX13_begin N σ x0 x1 x2 = some res → W p l e R s m args below meth c H locs cells slots (MQ below (Qd E R.cells R.slots (some (.ref res.1)) res.2) args s R.cells R.slots (fr E)) (F0 m 0 ls []) := by
  intro x0 x1 x2 σ H locs cells slots ls I hl hf
  obtain ⟨⟨hx, hb, hml, hown, hts⟩, -⟩ := id X
  unfold fX13_begin at hf
  refine lv_aload_n hx hb dX13_begin_0 rfl (lv_at hl 0 rfl) ?_
  refine lv_aload_n hx hb dX13_begin_1 rfl (lv_at hl 1 rfl) ?_
  obtain ⟨σ_40, eσ_40, hf⟩ := ob hf
  refine g_put X I pfX13_19 rfl rfl eσ_40 dX13_begin_2 (fun H locs I => ?_)
  refine lv_aload_n hx hb dX13_begin_5 rfl (lv_at hl 0 rfl) ?_
  refine lv_aload_n hx hb dX13_begin_6 rfl (lv_at hl 2 rfl) ?_
  obtain ⟨σ_41, eσ_41, hf⟩ := ob hf
  refine g_put X I pfX13_23 rfl rfl eσ_41 dX13_begin_7 (fun H locs I => ?_)
  refine lv_aload_n hx hb dX13_begin_10 rfl (lv_at hl 0 rfl) ?_
  refine lv_iconst (v := 0) hx hb dX13_begin_11 (by decide) ?_
  obtain ⟨σ_42, eσ_42, hf⟩ := ob hf
  refine g_put X I pfX13_27 rfl rfl eσ_42 dX13_begin_12 (fun H locs I => ?_)
  refine lv_aload_n hx hb dX13_begin_15 rfl (lv_at hl 0 rfl) ?_
  refine lv_aload_n hx hb dX13_begin_16 rfl (lv_at hl 1 rfl) ?_
  obtain ⟨v_43, ev_43, hf⟩ := ob hf
  refine g_getN hX X I gfX13_31 (gI_in ev_43) dX13_begin_17 ?_
  obtain ⟨σ_44, eσ_44, hf⟩ := ob hf
  refine g_put X I pfX13_36 rfl rfl eσ_44 dX13_begin_20 (fun H locs I => ?_)
  refine lv_aload_n hx hb dX13_begin_23 rfl (lv_at hl 0 rfl) ?_
  refine lv_aload_n hx hb dX13_begin_24 rfl (lv_at hl 1 rfl) ?_
  obtain ⟨v_45, ev_45, hf⟩ := ob hf
  refine g_getN hX X I gfX13_37 (gI_in ev_45) dX13_begin_25 ?_
  obtain ⟨σ_46, eσ_46, hf⟩ := ob hf
  refine g_put X I pfX13_40 rfl rfl eσ_46 dX13_begin_28 (fun H locs I => ?_)
  refine lv_aload_n hx hb dX13_begin_31 rfl (lv_at hl 0 rfl) ?_
  refine lv_aload_n hx hb dX13_begin_32 rfl (lv_at hl 1 rfl) ?_
  obtain ⟨v_47, ev_47, hf⟩ := ob hf
  refine g_getN hX X I gfX13_41 (gI_in ev_47) dX13_begin_33 ?_
  obtain ⟨σ_48, eσ_48, hf⟩ := ob hf
  refine g_put X I pfX13_44 rfl rfl eσ_48 dX13_begin_36 (fun H locs I => ?_)
  refine lv_aload_n hx hb dX13_begin_39 rfl (lv_at hl 0 rfl) ?_
  refine lv_aload_n hx hb dX13_begin_40 rfl (lv_at hl 0 rfl) ?_
  obtain ⟨v_49, ev_49, hf⟩ := ob hf
  refine g_get X I gfX13_15 (gR_in ev_49) dX13_begin_41 ?_
  refine lv_aload_n hx hb dX13_begin_44 rfl (lv_at hl 1 rfl) ?_
  obtain ⟨a_50, ea_50, hga_50⟩ := ob hf
  have hla_50 := hl
  have Ia_50 := I
  subst ea_50
  have hf := hga_50
  have hl := hla_50
  have I := Ia_50
  obtain ⟨u_51, eu_51, hf⟩ := ob hf
  obtain ⟨v_52, ev_52, hf⟩ := ob hf
  refine cg_V (vw := (RX2, TX2, 7)) (ci := 1) (r := (some (.int v_52))) (σ' := σ_48) (rs := [.int v_52, .ref x0]) (rest := [.ref x0]) (As := [.ref x1]) X I eu_51 rfl (mX2_personsIn hX ev_52) lvX13_45 hdX13_45 ⟨Nat.le_trans (Nat.le_of_ble_eq_true rfl) hR.1, Nat.le_trans (Nat.le_of_ble_eq_true rfl) hR.2⟩ rfl hl.1 rfl (Nat.le_of_ble_eq_true rfl) rfl dX13_begin_45 (fun H locs cells slots I => ?_)
  obtain ⟨σ_54, eσ_54, hf⟩ := ob hf
  refine g_put X I pfX13_51 rfl rfl eσ_54 dX13_begin_48 (fun H locs I => ?_)
  refine lv_aload_n hx hb dX13_begin_51 rfl (lv_at hl 0 rfl) ?_
  refine lv_iconst (v := 0) hx hb dX13_begin_52 (by decide) ?_
  obtain ⟨σ_55, eσ_55, hf⟩ := ob hf
  refine g_put X I pfX13_54 rfl rfl eσ_55 dX13_begin_53 (fun H locs I => ?_)
  refine lv_iconst (v := 0) hx hb dX13_begin_56 (by decide) ?_
  refine lv_istore_n (lv' := [(3, .int (0 : Int32)), (0, .ref x0), (1, .ref x1), (2, .ref x2)]) hx hb dX13_begin_57 rfl hl (by decide) rfl (fun ls hl => ?_)
  exact wX13_begin_58 hX hR X N N x0 x1 (0 : Int32) σ_55 _ _ _ _ _ I (lv_sub hl [1, 2, 0] rfl) hf
theorem mX13_begin {E : EV} {l : Launch} {N : Nat} {σ : St} {x0 : Nat} {x1 : Nat} {x2 : Nat} {res : (Nat × St)} (hX : XK E) (hf : fX13_begin N σ x0 x1 x2 = some res) : CM E l yX13_begin (ws_ yX13_begin cX13_begin 4 (some (.object "SharedTaxis$Walk"))) 4 87 [.ref x0, .ref x1, .ref x2] σ (some (.ref res.1)) res.2 := by
  refine CM.of hX.1 (by decide) rfl rfl (Nat.le_of_ble_eq_true rfl) ?_
  intro p e s m below meth c X I ls hl
  exact wX13_begin_0 hX ⟨Nat.le_refl _, Nat.le_refl _⟩ X N _ _ _ _ _ _ _ _ _ I hl hf
/-! SharedTaxis$Walk.leaving()I imp=False fuel=False kap=False rt=I thr=False -/
theorem gfX13_95 : ∀ q ∈ ([(11, 7)] : List (Nat × Nat)), GF RX13 95 q := List.forall_mem_cons.mpr ⟨⟨RX13, TX13, 17, _, rfl, in_X13, by decide, q1648, Or.inl rfl⟩, fun _ h => by cases h⟩
theorem gfX13_99 : ∀ q ∈ ([(13, 1)] : List (Nat × Nat)), GN RX13 99 q := List.forall_mem_cons.mpr ⟨⟨RX15, TX15, 2, _, rfl, in_X15, by decide, q1825⟩, fun _ h => by cases h⟩
theorem gfX13_104 : ∀ q ∈ ([(11, 8)] : List (Nat × Nat)), GF RX13 104 q := List.forall_mem_cons.mpr ⟨⟨RX13, TX13, 17, _, rfl, in_X13, by decide, q1652, Or.inl rfl⟩, fun _ h => by cases h⟩
theorem gfX13_108 : ∀ q ∈ ([(14, 4)] : List (Nat × Nat)), GN RX13 108 q := List.forall_mem_cons.mpr ⟨⟨RX16, TX16, 15, _, rfl, in_X16, by decide, q1120⟩, fun _ h => by cases h⟩
theorem gfX13_111 : ∀ q ∈ ([(11, 9)] : List (Nat × Nat)), GF RX13 111 q := List.forall_mem_cons.mpr ⟨⟨RX13, TX13, 17, _, rfl, in_X13, by decide, q1656, Or.inl rfl⟩, fun _ h => by cases h⟩
theorem gfX13_27 : ∀ q ∈ ([(11, 3)] : List (Nat × Nat)), GF RX13 27 q := List.forall_mem_cons.mpr ⟨⟨RX13, TX13, 17, _, rfl, in_X13, by decide, q1641, Or.inl rfl⟩, fun _ h => by cases h⟩
theorem gfX13_40 : ∀ q ∈ ([(11, 5)] : List (Nat × Nat)), GF RX13 40 q := List.forall_mem_cons.mpr ⟨⟨RX13, TX13, 17, _, rfl, in_X13, by decide, q1646, Or.inl rfl⟩, fun _ h => by cases h⟩
theorem gfX13_86 : ∀ q ∈ ([(1, 4)] : List (Nat × Nat)), GN RX13 86 q := List.forall_mem_cons.mpr ⟨⟨RX2, TX2, 7, _, rfl, in_X2, by decide, q250⟩, fun _ h => by cases h⟩
theorem gfX13_19 : ∀ q ∈ ([(11, 1)] : List (Nat × Nat)), GF RX13 19 q := List.forall_mem_cons.mpr ⟨⟨RX13, TX13, 17, _, rfl, in_X13, by decide, q1639, Or.inl rfl⟩, fun _ h => by cases h⟩
theorem gfX13_83 : ∀ q ∈ ([(10, 6)] : List (Nat × Nat)), GN RX13 83 q := List.forall_mem_cons.mpr ⟨⟨RX12, TX12, 15, _, rfl, in_X12, by decide, q926⟩, fun _ h => by cases h⟩
def fX13_leaving_54 (σ : St) (x0 : Nat) (y0 : Int32) : Option Int32 := (gR σ x0 [(11, 7)]).bind fun v_1 : Option Nat => (v_1).bind fun a_2 : Nat => (gI σ a_2 [(13, 1)]).bind fun v_3 : Int32 => if v_3 = 0 then some y0 else (gR σ x0 [(11, 8)]).bind fun v_4 : Option Nat => (v_4).bind fun a_5 : Nat => (gI σ a_5 [(14, 4)]).bind fun v_6 : Int32 => (gI σ x0 [(11, 9)]).bind fun v_7 : Int32 => some (if y0 < (v_6 - v_7) then (v_6 - v_7) else y0)
def fX13_leaving_26 (σ : St) (x0 : Nat) : Option Int32 := (gI σ x0 [(11, 3)]).bind fun v_8 : Int32 => if v_8 = 0 then (gI σ x0 [(11, 5)]).bind fun v_10 : Int32 => (gR σ x0 [(11, 0)]).bind fun v_11 : Option Nat => (v_11).bind fun a_12 : Nat => (gI σ a_12 [(1, 4)]).bind fun v_13 : Int32 => fX13_leaving_54 σ x0 (if v_10 < v_13 then v_13 else v_10) else (gI σ x0 [(11, 5)]).bind fun v_9 : Int32 => fX13_leaving_54 σ x0 v_9
def fX13_leaving (σ : St) (x0 : Nat) : Option Int32 := (gI σ x0 [(11, 3)]).bind fun v_14 : Int32 => if v_14 = 0 then (gR σ x0 [(11, 1)]).bind fun v_15 : Option Nat => (v_15).bind fun a_16 : Nat => (gI σ a_16 [(10, 6)]).bind fun v_17 : Int32 => if v_17 = (-1 : Int32) then fX13_leaving_26 σ x0 else (gR σ x0 [(11, 1)]).bind fun v_18 : Option Nat => (v_18).bind fun a_19 : Nat => (gI σ a_19 [(10, 6)]).bind fun v_20 : Int32 => some v_20 else fX13_leaving_26 σ x0
theorem wX13_leaving_54 {E : EV} {l : Launch} {p : Program} {e : Env} {s : State} {m : MethodId} {args : Array Value} {below : List Frame} {meth : Method} {c : Code} {R : Room} {σ : St} {res : Int32} (hX : XK E) (hR : 1 ≤ R.frames ∧ 21 ≤ R.locals) (X : MX E p s m args meth c cX13_leaving 2 (some .int) RX13 "leaving") : ∀ (x0 : Nat) (y0 : Int32) (H : Heap) (locs : List Loc) (cells slots : Nat) (ls : Array Slot), WI E R s σ H locs cells slots → lv_has ls 2 [(0, .ref x0)] → fX13_leaving_54 σ x0 y0 = some res → W p l e R s m args below meth c H locs cells slots (MQ below (Qd E R.cells R.slots (some (.int res)) σ) args s R.cells R.slots (fr E)) (F0 m 54 ls [.int y0]) := by
  intro x0 y0 H locs cells slots ls I hl hf
  obtain ⟨⟨hx, hb, hml, hown, hts⟩, -⟩ := id X
  unfold fX13_leaving_54 at hf
  refine lv_istore_n (lv' := [(1, .int y0), (0, .ref x0)]) hx hb dX13_leaving_54 rfl hl (by decide) rfl (fun ls hl => ?_)
  refine lv_aload_n hx hb dX13_leaving_55 rfl (lv_at hl 1 rfl) ?_
  obtain ⟨v_1, ev_1, hf⟩ := ob hf
  refine g_get X I gfX13_95 (gR_in ev_1) dX13_leaving_56 ?_
  obtain ⟨a_2, ea_2, hga_2⟩ := ob hf
  have hla_2 := hl
  have Ia_2 := I
  subst ea_2
  have hf := hga_2
  have hl := hla_2
  have I := Ia_2
  obtain ⟨v_3, ev_3, hf⟩ := ob hf
  refine g_getN hX X I gfX13_99 (gI_in ev_3) dX13_leaving_59 ?_
  refine lv_if_eq (tgt := 84) hx hb dX13_leaving_62 (by decide) (fun c_62 => ?_) (fun c_62 => ?_)
  · have hf := ip c_62 hf
    refine lv_iload_n hx hb dX13_leaving_84 rfl (lv_at hl 0 rfl) ?_
    cases os hf
    exact r_iret X I dX13_leaving_85
  · have hf := im c_62 hf
    refine lv_iload_n hx hb dX13_leaving_65 rfl (lv_at hl 0 rfl) ?_
    refine lv_aload_n hx hb dX13_leaving_66 rfl (lv_at hl 1 rfl) ?_
    obtain ⟨v_4, ev_4, hf⟩ := ob hf
    refine g_get X I gfX13_104 (gR_in ev_4) dX13_leaving_67 ?_
    obtain ⟨a_5, ea_5, hga_5⟩ := ob hf
    have hla_5 := hl
    have Ia_5 := I
    subst ea_5
    have hf := hga_5
    have hl := hla_5
    have I := Ia_5
    obtain ⟨v_6, ev_6, hf⟩ := ob hf
    refine g_getN hX X I gfX13_108 (gI_in ev_6) dX13_leaving_70 ?_
    refine lv_aload_n hx hb dX13_leaving_73 rfl (lv_at hl 1 rfl) ?_
    obtain ⟨v_7, ev_7, hf⟩ := ob hf
    refine g_get X I gfX13_111 (gI_in ev_7) dX13_leaving_74 ?_
    refine lv_isub hx hb dX13_leaving_77 ?_
    refine g_mmax X I ⟨Nat.le_trans (Nat.le_of_ble_eq_true rfl) hR.1, Nat.le_trans (Nat.le_of_ble_eq_true rfl) hR.2⟩ q1726 hl.1 (Nat.le_of_ble_eq_true rfl) dX13_leaving_78 ?_
    refine lv_goto (tgt := 85) hx hb dX13_leaving_81 (by decide) ?_
    cases os hf
    exact r_iret X I dX13_leaving_85
theorem wX13_leaving_26 {E : EV} {l : Launch} {p : Program} {e : Env} {s : State} {m : MethodId} {args : Array Value} {below : List Frame} {meth : Method} {c : Code} {R : Room} {σ : St} {res : Int32} (hX : XK E) (hR : 1 ≤ R.frames ∧ 21 ≤ R.locals) (X : MX E p s m args meth c cX13_leaving 2 (some .int) RX13 "leaving") : ∀ (x0 : Nat) (H : Heap) (locs : List Loc) (cells slots : Nat) (ls : Array Slot), WI E R s σ H locs cells slots → lv_has ls 2 [(0, .ref x0)] → fX13_leaving_26 σ x0 = some res → W p l e R s m args below meth c H locs cells slots (MQ below (Qd E R.cells R.slots (some (.int res)) σ) args s R.cells R.slots (fr E)) (F0 m 26 ls []) := by
  intro x0 H locs cells slots ls I hl hf
  obtain ⟨⟨hx, hb, hml, hown, hts⟩, -⟩ := id X
  unfold fX13_leaving_26 at hf
  refine lv_aload_n hx hb dX13_leaving_26 rfl (lv_at hl 0 rfl) ?_
  obtain ⟨v_8, ev_8, hf⟩ := ob hf
  refine g_get X I gfX13_27 (gI_in ev_8) dX13_leaving_27 ?_
  refine lv_if_ne (tgt := 50) hx hb dX13_leaving_30 (by decide) (fun c_30 => ?_) (fun c_30 => ?_)
  · have hf := im c_30 hf
    refine lv_aload_n hx hb dX13_leaving_50 rfl (lv_at hl 0 rfl) ?_
    obtain ⟨v_9, ev_9, hf⟩ := ob hf
    refine g_get X I gfX13_40 (gI_in ev_9) dX13_leaving_51 ?_
    exact wX13_leaving_54 hX hR X x0 v_9 _ _ _ _ _ I (lv_sub hl [0] rfl) hf
  · have hf := ip c_30 hf
    refine lv_aload_n hx hb dX13_leaving_33 rfl (lv_at hl 0 rfl) ?_
    obtain ⟨v_10, ev_10, hf⟩ := ob hf
    refine g_get X I gfX13_40 (gI_in ev_10) dX13_leaving_34 ?_
    refine lv_aload_n hx hb dX13_leaving_37 rfl (lv_at hl 0 rfl) ?_
    obtain ⟨v_11, ev_11, hf⟩ := ob hf
    refine g_get X I gfX13_15 (gR_in ev_11) dX13_leaving_38 ?_
    obtain ⟨a_12, ea_12, hga_12⟩ := ob hf
    have hla_12 := hl
    have Ia_12 := I
    subst ea_12
    have hf := hga_12
    have hl := hla_12
    have I := Ia_12
    obtain ⟨v_13, ev_13, hf⟩ := ob hf
    refine g_getN hX X I gfX13_86 (gI_in ev_13) dX13_leaving_41 ?_
    refine g_mmax X I ⟨Nat.le_trans (Nat.le_of_ble_eq_true rfl) hR.1, Nat.le_trans (Nat.le_of_ble_eq_true rfl) hR.2⟩ q1726 hl.1 (Nat.le_of_ble_eq_true rfl) dX13_leaving_44 ?_
    refine lv_goto (tgt := 54) hx hb dX13_leaving_47 (by decide) ?_
    exact wX13_leaving_54 hX hR X x0 (if v_10 < v_13 then v_13 else v_10) _ _ _ _ _ I (lv_sub hl [0] rfl) hf
theorem wX13_leaving_0 {E : EV} {l : Launch} {p : Program} {e : Env} {s : State} {m : MethodId} {args : Array Value} {below : List Frame} {meth : Method} {c : Code} {R : Room} {σ : St} {res : Int32} (hX : XK E) (hR : 1 ≤ R.frames ∧ 21 ≤ R.locals) (X : MX E p s m args meth c cX13_leaving 2 (some .int) RX13 "leaving") : ∀ (x0 : Nat) (H : Heap) (locs : List Loc) (cells slots : Nat) (ls : Array Slot), WI E R s σ H locs cells slots → lv_has ls 2 [(0, .ref x0)] → fX13_leaving σ x0 = some res → W p l e R s m args below meth c H locs cells slots (MQ below (Qd E R.cells R.slots (some (.int res)) σ) args s R.cells R.slots (fr E)) (F0 m 0 ls []) := by
  intro x0 H locs cells slots ls I hl hf
  obtain ⟨⟨hx, hb, hml, hown, hts⟩, -⟩ := id X
  unfold fX13_leaving at hf
  refine lv_aload_n hx hb dX13_leaving_0 rfl (lv_at hl 0 rfl) ?_
  obtain ⟨v_14, ev_14, hf⟩ := ob hf
  refine g_get X I gfX13_27 (gI_in ev_14) dX13_leaving_1 ?_
  refine lv_if_ne (tgt := 26) hx hb dX13_leaving_4 (by decide) (fun c_4 => ?_) (fun c_4 => ?_)
  · have hf := im c_4 hf
    exact wX13_leaving_26 hX hR X x0 _ _ _ _ _ I (lv_sub hl [0] rfl) hf
  · have hf := ip c_4 hf
    refine lv_aload_n hx hb dX13_leaving_7 rfl (lv_at hl 0 rfl) ?_
    obtain ⟨v_15, ev_15, hf⟩ := ob hf
    refine g_get X I gfX13_19 (gR_in ev_15) dX13_leaving_8 ?_
    obtain ⟨a_16, ea_16, hga_16⟩ := ob hf
    have hla_16 := hl
    have Ia_16 := I
    subst ea_16
    have hf := hga_16
    have hl := hla_16
    have I := Ia_16
    obtain ⟨v_17, ev_17, hf⟩ := ob hf
    refine g_getN hX X I gfX13_83 (gI_in ev_17) dX13_leaving_11 ?_
    refine lv_iconst (v := (-1)) hx hb dX13_leaving_14 (by decide) ?_
    refine lv_icmp_eq (tgt := 26) hx hb dX13_leaving_15 (by decide) (fun c_15 => ?_) (fun c_15 => ?_)
    · have hf := ip c_15 hf
      exact wX13_leaving_26 hX hR X x0 _ _ _ _ _ I (lv_sub hl [0] rfl) hf
    · have hf := im c_15 hf
      refine lv_aload_n hx hb dX13_leaving_18 rfl (lv_at hl 0 rfl) ?_
      obtain ⟨v_18, ev_18, hf⟩ := ob hf
      refine g_get X I gfX13_19 (gR_in ev_18) dX13_leaving_19 ?_
      obtain ⟨a_19, ea_19, hga_19⟩ := ob hf
      have hla_19 := hl
      have Ia_19 := I
      subst ea_19
      have hf := hga_19
      have hl := hla_19
      have I := Ia_19
      obtain ⟨v_20, ev_20, hf⟩ := ob hf
      refine g_getN hX X I gfX13_83 (gI_in ev_20) dX13_leaving_22 ?_
      cases os hf
      exact r_iret X I dX13_leaving_25
theorem mX13_leaving {E : EV} {l : Launch} {σ : St} {x0 : Nat} {res : Int32} (hX : XK E) (hf : fX13_leaving σ x0 = some res) : CM E l yX13_leaving (ws_ yX13_leaving cX13_leaving 2 (some .int)) 1 21 [.ref x0] σ (some (.int res)) σ := by
  refine CM.of hX.1 (by decide) rfl rfl (Nat.le_of_ble_eq_true rfl) ?_
  intro p e s m below meth c X I ls hl
  exact wX13_leaving_0 hX ⟨Nat.le_refl _, Nat.le_refl _⟩ X _ _ _ _ _ _ I hl hf
/-! SharedTaxis$Walk.next()V imp=True fuel=False kap=False rt=None thr=False -/
theorem gfX13_146 : ∀ q ∈ ([(11, 12)] : List (Nat × Nat)), GF RX13 146 q := List.forall_mem_cons.mpr ⟨⟨RX13, TX13, 17, _, rfl, in_X13, by decide, q1667, Or.inl rfl⟩, fun _ h => by cases h⟩
theorem pfX13_146 : ∀ q ∈ ([(11, 12)] : List (Nat × Nat)), PF RX13 146 .int q := List.forall_mem_cons.mpr ⟨⟨RX13, TX13, 17, _, tyX13, rfl, in_X13, by decide, q1667, Or.inl rfl, tyX13_ok, nmX13, rfl, rfl⟩, fun _ h => by cases h⟩
theorem gfX13_51 : ∀ q ∈ ([(11, 6)] : List (Nat × Nat)), GF RX13 51 q := List.forall_mem_cons.mpr ⟨⟨RX13, TX13, 17, _, rfl, in_X13, by decide, q1647, Or.inl rfl⟩, fun _ h => by cases h⟩
theorem pfX13_149 : ∀ q ∈ ([(11, 14)] : List (Nat × Nat)), PF RX13 149 .int q := List.forall_mem_cons.mpr ⟨⟨RX13, TX13, 17, _, tyX13, rfl, in_X13, by decide, q1671, Or.inl rfl, tyX13_ok, nmX13, rfl, rfl⟩, fun _ h => by cases h⟩
theorem gfX13_152 : ∀ q ∈ ([(14, 3)] : List (Nat × Nat)), GN RX13 152 q := List.forall_mem_cons.mpr ⟨⟨RX16, TX16, 15, _, rfl, in_X16, by decide, q1116⟩, fun _ h => by cases h⟩
theorem gfX13_114 : ∀ q ∈ ([(13, 0)] : List (Nat × Nat)), GN RX13 114 q := List.forall_mem_cons.mpr ⟨⟨RX15, TX15, 2, _, rfl, in_X15, by decide, q1820⟩, fun _ h => by cases h⟩
theorem gfX13_143 : ∀ q ∈ ([(14, 13)] : List (Nat × Nat)), GN RX13 143 q := List.forall_mem_cons.mpr ⟨⟨RX16, TX16, 15, _, rfl, in_X16, by decide, q1147⟩, fun _ h => by cases h⟩
theorem gfX13_134 : ∀ q ∈ ([(11, 10)] : List (Nat × Nat)), GF RX13 134 q := List.forall_mem_cons.mpr ⟨⟨RX13, TX13, 17, _, rfl, in_X13, by decide, q1659, Or.inl rfl⟩, fun _ h => by cases h⟩
theorem pfX13_140 : ∀ q ∈ ([(11, 11)] : List (Nat × Nat)), PF RX13 140 .int q := List.forall_mem_cons.mpr ⟨⟨RX13, TX13, 17, _, tyX13, rfl, in_X13, by decide, q1664, Or.inl rfl, tyX13_ok, nmX13, rfl, rfl⟩, fun _ h => by cases h⟩
theorem gfX13_140 : ∀ q ∈ ([(11, 11)] : List (Nat × Nat)), GF RX13 140 q := List.forall_mem_cons.mpr ⟨⟨RX13, TX13, 17, _, rfl, in_X13, by decide, q1664, Or.inl rfl⟩, fun _ h => by cases h⟩
theorem gfX13_137 : ∀ q ∈ ([(1, 1)] : List (Nat × Nat)), GN RX13 137 q := List.forall_mem_cons.mpr ⟨⟨RX2, TX2, 7, _, rfl, in_X2, by decide, q237⟩, fun _ h => by cases h⟩
theorem pfX13_111 : ∀ q ∈ ([(11, 9)] : List (Nat × Nat)), PF RX13 111 .int q := List.forall_mem_cons.mpr ⟨⟨RX13, TX13, 17, _, tyX13, rfl, in_X13, by decide, q1656, Or.inl rfl, tyX13_ok, nmX13, rfl, rfl⟩, fun _ h => by cases h⟩
theorem lvX13_131 : GoodIn lw_all (wsV RX13 131 RX13 yX13_leaving (ws_ yX13_leaving cX13_leaving 2 (some .int))) := lw_V q1727 q1729 qs19 q149 q1730
theorem hdX13_131 : yX13_leaving.cls = RX13 ∧ yX13_leaving.cls ≠ "java/lang/invoke/MethodHandle" ∧ yX13_leaving.cls ≠ "java/lang/invoke/VarHandle" ∧ (parseMethodDescriptor yX13_leaving.desc).map (fun d => d.parameters.length) = some 0 := by decide +kernel
theorem pfX13_134 : ∀ q ∈ ([(11, 10)] : List (Nat × Nat)), PF RX13 134 .int q := List.forall_mem_cons.mpr ⟨⟨RX13, TX13, 17, _, tyX13, rfl, in_X13, by decide, q1659, Or.inl rfl, tyX13_ok, nmX13, rfl, rfl⟩, fun _ h => by cases h⟩
theorem gfX13_44 : ∀ q ∈ ([(11, 13)] : List (Nat × Nat)), GF RX13 44 q := List.forall_mem_cons.mpr ⟨⟨RX13, TX13, 17, _, rfl, in_X13, by decide, q1669, Or.inl rfl⟩, fun _ h => by cases h⟩
theorem gfX13_122 : ∀ q ∈ ([(1, 0)] : List (Nat × Nat)), GN RX13 122 q := List.forall_mem_cons.mpr ⟨⟨RX2, TX2, 7, _, rfl, in_X2, by decide, q233⟩, fun _ h => by cases h⟩
theorem gfX13_126 : ∀ q ∈ ([(2, 1)] : List (Nat × Nat)), GN RX13 126 q := List.forall_mem_cons.mpr ⟨⟨RX3, TX3, 3, _, rfl, in_X3, by decide, q186⟩, fun _ h => by cases h⟩
theorem gfX13_36 : ∀ q ∈ ([(11, 4)] : List (Nat × Nat)), GF RX13 36 q := List.forall_mem_cons.mpr ⟨⟨RX13, TX13, 17, _, rfl, in_X13, by decide, q1643, Or.inl rfl⟩, fun _ h => by cases h⟩
theorem gfX13_54 : ∀ q ∈ ([(11, 15)] : List (Nat × Nat)), GF RX13 54 q := List.forall_mem_cons.mpr ⟨⟨RX13, TX13, 17, _, rfl, in_X13, by decide, q1672, Or.inl rfl⟩, fun _ h => by cases h⟩
theorem gfX13_23 : ∀ q ∈ ([(11, 2)] : List (Nat × Nat)), GF RX13 23 q := List.forall_mem_cons.mpr ⟨⟨RX13, TX13, 17, _, rfl, in_X13, by decide, q1640, Or.inl rfl⟩, fun _ h => by cases h⟩
theorem pfX13_95 : ∀ q ∈ ([(11, 7)] : List (Nat × Nat)), PF RX13 95 (.object "SharedTaxis$Stop") q := List.forall_mem_cons.mpr ⟨⟨RX13, TX13, 17, _, tyX13, rfl, in_X13, by decide, q1648, Or.inl rfl, tyX13_ok, nmX13, rfl, rfl⟩, fun _ h => by cases h⟩
theorem pfX13_104 : ∀ q ∈ ([(11, 8)] : List (Nat × Nat)), PF RX13 104 (.object "SharedTaxis$Ride") q := List.forall_mem_cons.mpr ⟨⟨RX13, TX13, 17, _, tyX13, rfl, in_X13, by decide, q1652, Or.inl rfl, tyX13_ok, nmX13, rfl, rfl⟩, fun _ h => by cases h⟩
theorem gfX13_119 : ∀ q ∈ ([(14, 2)] : List (Nat × Nat)), GN RX13 119 q := List.forall_mem_cons.mpr ⟨⟨RX16, TX16, 15, _, rfl, in_X16, by decide, q1113⟩, fun _ h => by cases h⟩
theorem gfX13_116 : ∀ q ∈ ([(14, 1)] : List (Nat × Nat)), GN RX13 116 q := List.forall_mem_cons.mpr ⟨⟨RX16, TX16, 15, _, rfl, in_X16, by decide, q1109⟩, fun _ h => by cases h⟩
def fX13_next_314 (x0 : Nat) (x1 : Int32) (σ : St) : Option St := (pV σ x0 [(11, 4)] (.int x1)).bind fun σ_1 : St => (gI σ_1 x0 [(11, 12)]).bind fun v_2 : Int32 => (pV σ_1 x0 [(11, 5)] (.int v_2)).bind fun σ_3 : St => (gI σ_3 x0 [(11, 3)]).bind fun v_4 : Int32 => (pV σ_3 x0 [(11, 3)] (.int (v_4 + (1 : Int32)))).bind fun σ_5 : St => some σ_5
def fX13_next_291 (x0 : Nat) (x1 : Int32) (y0 : Nat) (y1 : Int32) (y2 : Int32) (σ : St) : Option St := (pV σ y0 [(11, 6)] (.int (y1 + y2))).bind fun σ_6 : St => fX13_next_314 x0 x1 σ_6
def fX13_next_226 (x0 : Nat) (x1 : Int32) (y0 : Nat) (y1 : Int32) (y2 : Option Nat) (y3 : Int32) (σ : St) : Option St := (y2).bind fun a_7 : Nat => (aI σ a_7 0 y3).bind fun v_8 : Int32 => (pV σ y0 [(11, 12)] (.int (y1 + v_8))).bind fun σ_9 : St => (gI σ_9 x0 [(11, 6)]).bind fun v_10 : Int32 => (pV σ_9 x0 [(11, 14)] (.int v_10)).bind fun σ_11 : St => (gR σ_11 x0 [(11, 7)]).bind fun v_12 : Option Nat => (v_12).bind fun a_13 : Nat => (gI σ_11 a_13 [(13, 1)]).bind fun v_14 : Int32 => if v_14 = 0 then (gI σ_11 x0 [(11, 6)]).bind fun v_15 : Int32 => (gR σ_11 x0 [(11, 8)]).bind fun v_16 : Option Nat => (v_16).bind fun a_17 : Nat => (gI σ_11 a_17 [(14, 3)]).bind fun v_18 : Int32 => (pV σ_11 x0 [(11, 6)] (.int (v_15 - v_18))).bind fun σ_19 : St => fX13_next_314 x0 x1 σ_19 else (gR σ_11 x0 [(11, 16)]).bind fun v_20 : Option Nat => (gR σ_11 x0 [(11, 7)]).bind fun v_21 : Option Nat => (v_21).bind fun a_22 : Nat => (gI σ_11 a_22 [(13, 0)]).bind fun v_23 : Int32 => (gI σ_11 x0 [(11, 12)]).bind fun v_24 : Int32 => (v_20).bind fun a_25 : Nat => (sI σ_11 a_25 0 v_23 v_24).bind fun σ_26 : St => (gI σ_26 x0 [(11, 6)]).bind fun v_27 : Int32 => (gR σ_26 x0 [(11, 8)]).bind fun v_28 : Option Nat => (v_28).bind fun a_29 : Nat => (gI σ_26 a_29 [(14, 13)]).bind fun v_30 : Int32 => if v_30 = 0 then (gR σ_26 x0 [(11, 8)]).bind fun v_31 : Option Nat => (v_31).bind fun a_32 : Nat => (gI σ_26 a_32 [(14, 3)]).bind fun v_33 : Int32 => fX13_next_291 x0 x1 x0 v_27 v_33 σ_26 else fX13_next_291 x0 x1 x0 v_27 (0 : Int32) σ_26
def fX13_next_225 (x0 : Nat) (x1 : Int32) (y0 : Nat) (y1 : Int32) (y2 : Option Nat) (σ : St) : Option St := fX13_next_226 x0 x1 y0 y1 y2 (1 : Int32) σ
def fX13_next_168 (x0 : Nat) (x1 : Int32) (y0 : Nat) (y1 : Int32) (σ : St) : Option St := (gI σ x0 [(11, 9)]).bind fun v_34 : Int32 => (pV σ y0 [(11, 13)] (.int (y1 + v_34))).bind fun σ_35 : St => (gI σ_35 x0 [(11, 10)]).bind fun v_36 : Int32 => (gI σ_35 x0 [(11, 9)]).bind fun v_37 : Int32 => (pV σ_35 x0 [(11, 11)] (.int (v_36 + v_37))).bind fun σ_38 : St => (gI σ_38 x0 [(11, 11)]).bind fun v_39 : Int32 => (gR σ_38 x0 [(11, 0)]).bind fun v_40 : Option Nat => (v_40).bind fun a_41 : Nat => (gR σ_38 a_41 [(1, 1)]).bind fun v_42 : Option Nat => (gR σ_38 x0 [(11, 7)]).bind fun v_43 : Option Nat => (v_43).bind fun a_44 : Nat => (gI σ_38 a_44 [(13, 1)]).bind fun v_45 : Int32 => if v_45 = 0 then fX13_next_225 x0 x1 x0 v_39 v_42 σ_38 else (gR σ_38 x0 [(11, 8)]).bind fun v_46 : Option Nat => (v_46).bind fun a_47 : Nat => (gI σ_38 a_47 [(14, 13)]).bind fun v_48 : Int32 => if v_48 = 0 then fX13_next_225 x0 x1 x0 v_39 v_42 σ_38 else fX13_next_226 x0 x1 x0 v_39 v_42 (3 : Int32) σ_38
def fX13_next_113 (x0 : Nat) (x1 : Int32) (y0 : Nat) (y1 : Int32) (y2 : Int32) (σ : St) : Option St := if ¬ ((y1 ||| y2) = 0 ∨ (y1 ||| y2) = 1) then none else (pV σ y0 [(11, 15)] (.int (y1 ||| y2))).bind fun σ_49 : St => (gI σ_49 x0 [(11, 9)]).bind fun v_50 : Int32 => (pV σ_49 x0 [(11, 9)] (.int (if (0 : Int32) < v_50 then v_50 else (0 : Int32)))).bind fun σ_51 : St => (isC σ_51 x0 11).bind fun u_52 : Unit => (fX13_leaving σ_51 x0).bind fun v_53 : Int32 => (pV σ_51 x0 [(11, 10)] (.int v_53)).bind fun σ_55 : St => (gI σ_55 x0 [(11, 10)]).bind fun v_56 : Int32 => (gI σ_55 x0 [(11, 5)]).bind fun v_57 : Int32 => (gR σ_55 x0 [(11, 0)]).bind fun v_58 : Option Nat => (v_58).bind fun a_59 : Nat => (gR σ_55 a_59 [(1, 1)]).bind fun v_60 : Option Nat => (v_60).bind fun a_61 : Nat => (aI σ_55 a_61 0 (6 : Int32)).bind fun v_62 : Int32 => if (v_56 - v_57) < v_62 then (gI σ_55 x0 [(11, 13)]).bind fun v_63 : Int32 => fX13_next_168 x0 x1 x0 v_63 σ_55 else fX13_next_168 x0 x1 x0 (0 : Int32) σ_55
def fX13_next_73 (x0 : Nat) (y0 : Int32) (σ : St) : Option St := (gR σ x0 [(11, 0)]).bind fun v_64 : Option Nat => (v_64).bind fun a_65 : Nat => (gR σ a_65 [(1, 0)]).bind fun v_66 : Option Nat => (v_66).bind fun a_67 : Nat => (gR σ a_67 [(2, 1)]).bind fun v_68 : Option Nat => (gI σ x0 [(11, 4)]).bind fun v_69 : Int32 => (v_68).bind fun a_70 : Nat => (aR σ a_70 3 v_69).bind fun v_71 : Option Nat => (v_71).bind fun a_72 : Nat => (aI σ a_72 0 y0).bind fun v_73 : Int32 => (pV σ x0 [(11, 9)] (.int v_73)).bind fun σ_74 : St => (gI σ_74 x0 [(11, 15)]).bind fun v_75 : Int32 => (gI σ_74 x0 [(11, 9)]).bind fun v_76 : Int32 => if v_76 = (-1 : Int32) then fX13_next_113 x0 y0 x0 v_75 (1 : Int32) σ_74 else fX13_next_113 x0 y0 x0 v_75 (0 : Int32) σ_74
def fX13_next (σ : St) (x0 : Nat) : Option St := (gR σ x0 [(11, 2)]).bind fun v_77 : Option Nat => (gI σ x0 [(11, 3)]).bind fun v_78 : Int32 => (v_77).bind fun a_79 : Nat => (isC σ a_79 21).bind fun u_80 : Unit => (fJ2_get σ a_79 v_78).bind fun v_81 : Option Nat => (v_81).bind fun a_83 : Nat => (isC σ a_83 13).bind fun u_84 : Unit => (pV σ x0 [(11, 7)] (.ref a_83)).bind fun σ_85 : St => (gR σ_85 x0 [(11, 0)]).bind fun v_86 : Option Nat => (v_86).bind fun a_87 : Nat => (gR σ_85 a_87 [(1, 6)]).bind fun v_88 : Option Nat => (gR σ_85 x0 [(11, 7)]).bind fun v_89 : Option Nat => (v_89).bind fun a_90 : Nat => (gI σ_85 a_90 [(13, 0)]).bind fun v_91 : Int32 => (v_88).bind fun a_92 : Nat => (isC σ_85 a_92 21).bind fun u_93 : Unit => (fJ2_get σ_85 a_92 v_91).bind fun v_94 : Option Nat => (v_94).bind fun a_96 : Nat => (isC σ_85 a_96 14).bind fun u_97 : Unit => (pV σ_85 x0 [(11, 8)] (.ref a_96)).bind fun σ_98 : St => (gR σ_98 x0 [(11, 7)]).bind fun v_99 : Option Nat => (v_99).bind fun a_100 : Nat => (gI σ_98 a_100 [(13, 1)]).bind fun v_101 : Int32 => if v_101 = 0 then (gR σ_98 x0 [(11, 8)]).bind fun v_102 : Option Nat => (v_102).bind fun a_103 : Nat => (gI σ_98 a_103 [(14, 2)]).bind fun v_104 : Int32 => fX13_next_73 x0 v_104 σ_98 else (gR σ_98 x0 [(11, 8)]).bind fun v_105 : Option Nat => (v_105).bind fun a_106 : Nat => (gI σ_98 a_106 [(14, 1)]).bind fun v_107 : Int32 => fX13_next_73 x0 v_107 σ_98
theorem wX13_next_314 {E : EV} {l : Launch} {p : Program} {e : Env} {s : State} {m : MethodId} {args : Array Value} {below : List Frame} {meth : Method} {c : Code} {R : Room} {res : St} (hX : XK E) (hR : 3 ≤ R.frames ∧ 64 ≤ R.locals) (X : MX E p s m args meth c cX13_next 2 none RX13 "next") : ∀ (x0 : Nat) (x1 : Int32) (σ : St) (H : Heap) (locs : List Loc) (cells slots : Nat) (ls : Array Slot), WI E R s σ H locs cells slots → lv_has ls 2 [(0, .ref x0), (1, .int x1)] → fX13_next_314 x0 x1 σ = some res → W p l e R s m args below meth c H locs cells slots (MQ below (Qd E R.cells R.slots none res) args s R.cells R.slots (fr E)) (F0 m 314 ls []) := by
  intro x0 x1 σ H locs cells slots ls I hl hf
  obtain ⟨⟨hx, hb, hml, hown, hts⟩, -⟩ := id X
  unfold fX13_next_314 at hf
  refine lv_aload_n hx hb dX13_next_314 rfl (lv_at hl 0 rfl) ?_
  refine lv_iload_n hx hb dX13_next_315 rfl (lv_at hl 1 rfl) ?_
  obtain ⟨σ_1, eσ_1, hf⟩ := ob hf
  refine g_put X I pfX13_36 rfl rfl eσ_1 dX13_next_316 (fun H locs I => ?_)
  refine lv_aload_n hx hb dX13_next_319 rfl (lv_at hl 0 rfl) ?_
  refine lv_aload_n hx hb dX13_next_320 rfl (lv_at hl 0 rfl) ?_
  obtain ⟨v_2, ev_2, hf⟩ := ob hf
  refine g_get X I gfX13_146 (gI_in ev_2) dX13_next_321 ?_
  obtain ⟨σ_3, eσ_3, hf⟩ := ob hf
  refine g_put X I pfX13_40 rfl rfl eσ_3 dX13_next_324 (fun H locs I => ?_)
  refine lv_aload_n hx hb dX13_next_327 rfl (lv_at hl 0 rfl) ?_
  refine lv_dup hx hb dX13_next_328 rfl ?_
  obtain ⟨v_4, ev_4, hf⟩ := ob hf
  refine g_get X I gfX13_27 (gI_in ev_4) dX13_next_329 ?_
  refine lv_iconst (v := 1) hx hb dX13_next_332 (by decide) ?_
  refine lv_iadd hx hb dX13_next_333 ?_
  obtain ⟨σ_5, eσ_5, hf⟩ := ob hf
  refine g_put X I pfX13_27 rfl rfl eσ_5 dX13_next_334 (fun H locs I => ?_)
  cases os hf
  exact r_vret X I dX13_next_337
theorem wX13_next_291 {E : EV} {l : Launch} {p : Program} {e : Env} {s : State} {m : MethodId} {args : Array Value} {below : List Frame} {meth : Method} {c : Code} {R : Room} {res : St} (hX : XK E) (hR : 3 ≤ R.frames ∧ 64 ≤ R.locals) (X : MX E p s m args meth c cX13_next 2 none RX13 "next") : ∀ (x0 : Nat) (x1 : Int32) (y0 : Nat) (y1 : Int32) (y2 : Int32) (σ : St) (H : Heap) (locs : List Loc) (cells slots : Nat) (ls : Array Slot), WI E R s σ H locs cells slots → lv_has ls 2 [(0, .ref x0), (1, .int x1)] → fX13_next_291 x0 x1 y0 y1 y2 σ = some res → W p l e R s m args below meth c H locs cells slots (MQ below (Qd E R.cells R.slots none res) args s R.cells R.slots (fr E)) (F0 m 291 ls [.int y2, .int y1, .ref y0]) := by
  intro x0 x1 y0 y1 y2 σ H locs cells slots ls I hl hf
  obtain ⟨⟨hx, hb, hml, hown, hts⟩, -⟩ := id X
  unfold fX13_next_291 at hf
  refine lv_iadd hx hb dX13_next_291 ?_
  obtain ⟨σ_6, eσ_6, hf⟩ := ob hf
  refine g_put X I pfX13_51 rfl rfl eσ_6 dX13_next_292 (fun H locs I => ?_)
  refine lv_goto (tgt := 314) hx hb dX13_next_295 (by decide) ?_
  exact wX13_next_314 hX hR X x0 x1 σ_6 _ _ _ _ _ I (lv_sub hl [0, 1] rfl) hf
theorem wX13_next_226 {E : EV} {l : Launch} {p : Program} {e : Env} {s : State} {m : MethodId} {args : Array Value} {below : List Frame} {meth : Method} {c : Code} {R : Room} {res : St} (hX : XK E) (hR : 3 ≤ R.frames ∧ 64 ≤ R.locals) (X : MX E p s m args meth c cX13_next 2 none RX13 "next") : ∀ (x0 : Nat) (x1 : Int32) (y0 : Nat) (y1 : Int32) (y2 : Option Nat) (y3 : Int32) (σ : St) (H : Heap) (locs : List Loc) (cells slots : Nat) (ls : Array Slot), WI E R s σ H locs cells slots → lv_has ls 2 [(0, .ref x0), (1, .int x1)] → fX13_next_226 x0 x1 y0 y1 y2 y3 σ = some res → W p l e R s m args below meth c H locs cells slots (MQ below (Qd E R.cells R.slots none res) args s R.cells R.slots (fr E)) (F0 m 226 ls [.int y3, va_rf y2, .int y1, .ref y0]) := by
  intro x0 x1 y0 y1 y2 y3 σ H locs cells slots ls I hl hf
  obtain ⟨⟨hx, hb, hml, hown, hts⟩, -⟩ := id X
  unfold fX13_next_226 at hf
  obtain ⟨a_7, ea_7, hga_7⟩ := ob hf
  have hla_7 := hl
  have Ia_7 := I
  subst ea_7
  have hf := hga_7
  have hl := hla_7
  have I := Ia_7
  obtain ⟨v_8, ev_8, hf⟩ := ob hf
  refine g_iald X I ev_8 dX13_next_226 ?_
  refine lv_iadd hx hb dX13_next_227 ?_
  obtain ⟨σ_9, eσ_9, hf⟩ := ob hf
  refine g_put X I pfX13_146 rfl rfl eσ_9 dX13_next_228 (fun H locs I => ?_)
  refine lv_aload_n hx hb dX13_next_231 rfl (lv_at hl 0 rfl) ?_
  refine lv_aload_n hx hb dX13_next_232 rfl (lv_at hl 0 rfl) ?_
  obtain ⟨v_10, ev_10, hf⟩ := ob hf
  refine g_get X I gfX13_51 (gI_in ev_10) dX13_next_233 ?_
  obtain ⟨σ_11, eσ_11, hf⟩ := ob hf
  refine g_put X I pfX13_149 rfl rfl eσ_11 dX13_next_236 (fun H locs I => ?_)
  refine lv_aload_n hx hb dX13_next_239 rfl (lv_at hl 0 rfl) ?_
  obtain ⟨v_12, ev_12, hf⟩ := ob hf
  refine g_get X I gfX13_95 (gR_in ev_12) dX13_next_240 ?_
  obtain ⟨a_13, ea_13, hga_13⟩ := ob hf
  have hla_13 := hl
  have Ia_13 := I
  subst ea_13
  have hf := hga_13
  have hl := hla_13
  have I := Ia_13
  obtain ⟨v_14, ev_14, hf⟩ := ob hf
  refine g_getN hX X I gfX13_99 (gI_in ev_14) dX13_next_243 ?_
  refine lv_if_eq (tgt := 298) hx hb dX13_next_246 (by decide) (fun c_246 => ?_) (fun c_246 => ?_)
  · have hf := ip c_246 hf
    refine lv_aload_n hx hb dX13_next_298 rfl (lv_at hl 0 rfl) ?_
    refine lv_dup hx hb dX13_next_299 rfl ?_
    obtain ⟨v_15, ev_15, hf⟩ := ob hf
    refine g_get X I gfX13_51 (gI_in ev_15) dX13_next_300 ?_
    refine lv_aload_n hx hb dX13_next_303 rfl (lv_at hl 0 rfl) ?_
    obtain ⟨v_16, ev_16, hf⟩ := ob hf
    refine g_get X I gfX13_104 (gR_in ev_16) dX13_next_304 ?_
    obtain ⟨a_17, ea_17, hga_17⟩ := ob hf
    have hla_17 := hl
    have Ia_17 := I
    subst ea_17
    have hf := hga_17
    have hl := hla_17
    have I := Ia_17
    obtain ⟨v_18, ev_18, hf⟩ := ob hf
    refine g_getN hX X I gfX13_152 (gI_in ev_18) dX13_next_307 ?_
    refine lv_isub hx hb dX13_next_310 ?_
    obtain ⟨σ_19, eσ_19, hf⟩ := ob hf
    refine g_put X I pfX13_51 rfl rfl eσ_19 dX13_next_311 (fun H locs I => ?_)
    exact wX13_next_314 hX hR X x0 x1 σ_19 _ _ _ _ _ I (lv_sub hl [0, 1] rfl) hf
  · have hf := im c_246 hf
    refine lv_aload_n hx hb dX13_next_249 rfl (lv_at hl 0 rfl) ?_
    obtain ⟨v_20, ev_20, hf⟩ := ob hf
    refine g_get X I gfX13_9 (gR_in ev_20) dX13_next_250 ?_
    refine lv_aload_n hx hb dX13_next_253 rfl (lv_at hl 0 rfl) ?_
    obtain ⟨v_21, ev_21, hf⟩ := ob hf
    refine g_get X I gfX13_95 (gR_in ev_21) dX13_next_254 ?_
    obtain ⟨a_22, ea_22, hga_22⟩ := ob hf
    have hla_22 := hl
    have Ia_22 := I
    subst ea_22
    have hf := hga_22
    have hl := hla_22
    have I := Ia_22
    obtain ⟨v_23, ev_23, hf⟩ := ob hf
    refine g_getN hX X I gfX13_114 (gI_in ev_23) dX13_next_257 ?_
    refine lv_aload_n hx hb dX13_next_260 rfl (lv_at hl 0 rfl) ?_
    obtain ⟨v_24, ev_24, hf⟩ := ob hf
    refine g_get X I gfX13_146 (gI_in ev_24) dX13_next_261 ?_
    obtain ⟨a_25, ea_25, hga_25⟩ := ob hf
    have hla_25 := hl
    have Ia_25 := I
    subst ea_25
    have hf := hga_25
    have hl := hla_25
    have I := Ia_25
    obtain ⟨σ_26, eσ_26, hf⟩ := ob hf
    refine g_iast X I eσ_26 dX13_next_264 (fun H locs I => ?_)
    refine lv_aload_n hx hb dX13_next_265 rfl (lv_at hl 0 rfl) ?_
    refine lv_dup hx hb dX13_next_266 rfl ?_
    obtain ⟨v_27, ev_27, hf⟩ := ob hf
    refine g_get X I gfX13_51 (gI_in ev_27) dX13_next_267 ?_
    refine lv_aload_n hx hb dX13_next_270 rfl (lv_at hl 0 rfl) ?_
    obtain ⟨v_28, ev_28, hf⟩ := ob hf
    refine g_get X I gfX13_104 (gR_in ev_28) dX13_next_271 ?_
    obtain ⟨a_29, ea_29, hga_29⟩ := ob hf
    have hla_29 := hl
    have Ia_29 := I
    subst ea_29
    have hf := hga_29
    have hl := hla_29
    have I := Ia_29
    obtain ⟨v_30, ev_30, hf⟩ := ob hf
    refine g_getN hX X I gfX13_143 (gI_in ev_30) dX13_next_274 ?_
    refine lv_if_eq (tgt := 284) hx hb dX13_next_277 (by decide) (fun c_277 => ?_) (fun c_277 => ?_)
    · have hf := ip c_277 hf
      refine lv_aload_n hx hb dX13_next_284 rfl (lv_at hl 0 rfl) ?_
      obtain ⟨v_31, ev_31, hf⟩ := ob hf
      refine g_get X I gfX13_104 (gR_in ev_31) dX13_next_285 ?_
      obtain ⟨a_32, ea_32, hga_32⟩ := ob hf
      have hla_32 := hl
      have Ia_32 := I
      subst ea_32
      have hf := hga_32
      have hl := hla_32
      have I := Ia_32
      obtain ⟨v_33, ev_33, hf⟩ := ob hf
      refine g_getN hX X I gfX13_152 (gI_in ev_33) dX13_next_288 ?_
      exact wX13_next_291 hX hR X x0 x1 x0 v_27 v_33 σ_26 _ _ _ _ _ I (lv_sub hl [0, 1] rfl) hf
    · have hf := im c_277 hf
      refine lv_iconst (v := 0) hx hb dX13_next_280 (by decide) ?_
      refine lv_goto (tgt := 291) hx hb dX13_next_281 (by decide) ?_
      exact wX13_next_291 hX hR X x0 x1 x0 v_27 (0 : Int32) σ_26 _ _ _ _ _ I (lv_sub hl [0, 1] rfl) hf
theorem wX13_next_225 {E : EV} {l : Launch} {p : Program} {e : Env} {s : State} {m : MethodId} {args : Array Value} {below : List Frame} {meth : Method} {c : Code} {R : Room} {res : St} (hX : XK E) (hR : 3 ≤ R.frames ∧ 64 ≤ R.locals) (X : MX E p s m args meth c cX13_next 2 none RX13 "next") : ∀ (x0 : Nat) (x1 : Int32) (y0 : Nat) (y1 : Int32) (y2 : Option Nat) (σ : St) (H : Heap) (locs : List Loc) (cells slots : Nat) (ls : Array Slot), WI E R s σ H locs cells slots → lv_has ls 2 [(0, .ref x0), (1, .int x1)] → fX13_next_225 x0 x1 y0 y1 y2 σ = some res → W p l e R s m args below meth c H locs cells slots (MQ below (Qd E R.cells R.slots none res) args s R.cells R.slots (fr E)) (F0 m 225 ls [va_rf y2, .int y1, .ref y0]) := by
  intro x0 x1 y0 y1 y2 σ H locs cells slots ls I hl hf
  obtain ⟨⟨hx, hb, hml, hown, hts⟩, -⟩ := id X
  unfold fX13_next_225 at hf
  refine lv_iconst (v := 1) hx hb dX13_next_225 (by decide) ?_
  exact wX13_next_226 hX hR X x0 x1 y0 y1 y2 (1 : Int32) σ _ _ _ _ _ I (lv_sub hl [0, 1] rfl) hf
theorem wX13_next_168 {E : EV} {l : Launch} {p : Program} {e : Env} {s : State} {m : MethodId} {args : Array Value} {below : List Frame} {meth : Method} {c : Code} {R : Room} {res : St} (hX : XK E) (hR : 3 ≤ R.frames ∧ 64 ≤ R.locals) (X : MX E p s m args meth c cX13_next 2 none RX13 "next") : ∀ (x0 : Nat) (x1 : Int32) (y0 : Nat) (y1 : Int32) (σ : St) (H : Heap) (locs : List Loc) (cells slots : Nat) (ls : Array Slot), WI E R s σ H locs cells slots → lv_has ls 2 [(0, .ref x0), (1, .int x1)] → fX13_next_168 x0 x1 y0 y1 σ = some res → W p l e R s m args below meth c H locs cells slots (MQ below (Qd E R.cells R.slots none res) args s R.cells R.slots (fr E)) (F0 m 168 ls [.int y1, .ref y0]) := by
  intro x0 x1 y0 y1 σ H locs cells slots ls I hl hf
  obtain ⟨⟨hx, hb, hml, hown, hts⟩, -⟩ := id X
  unfold fX13_next_168 at hf
  refine lv_aload_n hx hb dX13_next_168 rfl (lv_at hl 0 rfl) ?_
  obtain ⟨v_34, ev_34, hf⟩ := ob hf
  refine g_get X I gfX13_111 (gI_in ev_34) dX13_next_169 ?_
  refine lv_iadd hx hb dX13_next_172 ?_
  obtain ⟨σ_35, eσ_35, hf⟩ := ob hf
  refine g_put X I pfX13_44 rfl rfl eσ_35 dX13_next_173 (fun H locs I => ?_)
  refine lv_aload_n hx hb dX13_next_176 rfl (lv_at hl 0 rfl) ?_
  refine lv_aload_n hx hb dX13_next_177 rfl (lv_at hl 0 rfl) ?_
  obtain ⟨v_36, ev_36, hf⟩ := ob hf
  refine g_get X I gfX13_134 (gI_in ev_36) dX13_next_178 ?_
  refine lv_aload_n hx hb dX13_next_181 rfl (lv_at hl 0 rfl) ?_
  obtain ⟨v_37, ev_37, hf⟩ := ob hf
  refine g_get X I gfX13_111 (gI_in ev_37) dX13_next_182 ?_
  refine lv_iadd hx hb dX13_next_185 ?_
  obtain ⟨σ_38, eσ_38, hf⟩ := ob hf
  refine g_put X I pfX13_140 rfl rfl eσ_38 dX13_next_186 (fun H locs I => ?_)
  refine lv_aload_n hx hb dX13_next_189 rfl (lv_at hl 0 rfl) ?_
  refine lv_aload_n hx hb dX13_next_190 rfl (lv_at hl 0 rfl) ?_
  obtain ⟨v_39, ev_39, hf⟩ := ob hf
  refine g_get X I gfX13_140 (gI_in ev_39) dX13_next_191 ?_
  refine lv_aload_n hx hb dX13_next_194 rfl (lv_at hl 0 rfl) ?_
  obtain ⟨v_40, ev_40, hf⟩ := ob hf
  refine g_get X I gfX13_15 (gR_in ev_40) dX13_next_195 ?_
  obtain ⟨a_41, ea_41, hga_41⟩ := ob hf
  have hla_41 := hl
  have Ia_41 := I
  subst ea_41
  have hf := hga_41
  have hl := hla_41
  have I := Ia_41
  obtain ⟨v_42, ev_42, hf⟩ := ob hf
  refine g_getN hX X I gfX13_137 (gR_in ev_42) dX13_next_198 ?_
  refine lv_aload_n hx hb dX13_next_201 rfl (lv_at hl 0 rfl) ?_
  obtain ⟨v_43, ev_43, hf⟩ := ob hf
  refine g_get X I gfX13_95 (gR_in ev_43) dX13_next_202 ?_
  obtain ⟨a_44, ea_44, hga_44⟩ := ob hf
  have hla_44 := hl
  have Ia_44 := I
  subst ea_44
  have hf := hga_44
  have hl := hla_44
  have I := Ia_44
  obtain ⟨v_45, ev_45, hf⟩ := ob hf
  refine g_getN hX X I gfX13_99 (gI_in ev_45) dX13_next_205 ?_
  refine lv_if_eq (tgt := 225) hx hb dX13_next_208 (by decide) (fun c_208 => ?_) (fun c_208 => ?_)
  · have hf := ip c_208 hf
    exact wX13_next_225 hX hR X x0 x1 x0 v_39 v_42 σ_38 _ _ _ _ _ I (lv_sub hl [0, 1] rfl) hf
  · have hf := im c_208 hf
    refine lv_aload_n hx hb dX13_next_211 rfl (lv_at hl 0 rfl) ?_
    obtain ⟨v_46, ev_46, hf⟩ := ob hf
    refine g_get X I gfX13_104 (gR_in ev_46) dX13_next_212 ?_
    obtain ⟨a_47, ea_47, hga_47⟩ := ob hf
    have hla_47 := hl
    have Ia_47 := I
    subst ea_47
    have hf := hga_47
    have hl := hla_47
    have I := Ia_47
    obtain ⟨v_48, ev_48, hf⟩ := ob hf
    refine g_getN hX X I gfX13_143 (gI_in ev_48) dX13_next_215 ?_
    refine lv_if_eq (tgt := 225) hx hb dX13_next_218 (by decide) (fun c_218 => ?_) (fun c_218 => ?_)
    · have hf := ip c_218 hf
      exact wX13_next_225 hX hR X x0 x1 x0 v_39 v_42 σ_38 _ _ _ _ _ I (lv_sub hl [0, 1] rfl) hf
    · have hf := im c_218 hf
      refine lv_iconst (v := 3) hx hb dX13_next_221 (by decide) ?_
      refine lv_goto (tgt := 226) hx hb dX13_next_222 (by decide) ?_
      exact wX13_next_226 hX hR X x0 x1 x0 v_39 v_42 (3 : Int32) σ_38 _ _ _ _ _ I (lv_sub hl [0, 1] rfl) hf
theorem wX13_next_113 {E : EV} {l : Launch} {p : Program} {e : Env} {s : State} {m : MethodId} {args : Array Value} {below : List Frame} {meth : Method} {c : Code} {R : Room} {res : St} (hX : XK E) (hR : 3 ≤ R.frames ∧ 64 ≤ R.locals) (X : MX E p s m args meth c cX13_next 2 none RX13 "next") : ∀ (x0 : Nat) (x1 : Int32) (y0 : Nat) (y1 : Int32) (y2 : Int32) (σ : St) (H : Heap) (locs : List Loc) (cells slots : Nat) (ls : Array Slot), WI E R s σ H locs cells slots → lv_has ls 2 [(0, .ref x0), (1, .int x1)] → fX13_next_113 x0 x1 y0 y1 y2 σ = some res → W p l e R s m args below meth c H locs cells slots (MQ below (Qd E R.cells R.slots none res) args s R.cells R.slots (fr E)) (F0 m 113 ls [.int y2, .int y1, .ref y0]) := by
  intro x0 x1 y0 y1 y2 σ H locs cells slots ls I hl hf
  obtain ⟨⟨hx, hb, hml, hown, hts⟩, -⟩ := id X
  unfold fX13_next_113 at hf
  refine lv_ior hx hb dX13_next_113 ?_
  by_cases d_114 : ¬ ((y1 ||| y2) = 0 ∨ (y1 ||| y2) = 1)
  · exact nomatch (ip d_114 hf)
  have hf := im d_114 hf
  have c_114 := Decidable.not_not.mp d_114
  obtain ⟨σ_49, eσ_49, hf⟩ := ob hf
  refine g_put X I pfX13_54 (z_nar c_114) (z_fit c_114) eσ_49 dX13_next_114 (fun H locs I => ?_)
  refine lv_aload_n hx hb dX13_next_117 rfl (lv_at hl 0 rfl) ?_
  refine lv_iconst (v := 0) hx hb dX13_next_118 (by decide) ?_
  refine lv_aload_n hx hb dX13_next_119 rfl (lv_at hl 0 rfl) ?_
  obtain ⟨v_50, ev_50, hf⟩ := ob hf
  refine g_get X I gfX13_111 (gI_in ev_50) dX13_next_120 ?_
  refine g_mmax X I ⟨Nat.le_trans (Nat.le_of_ble_eq_true rfl) hR.1, Nat.le_trans (Nat.le_of_ble_eq_true rfl) hR.2⟩ q1726 hl.1 (Nat.le_of_ble_eq_true rfl) dX13_next_123 ?_
  obtain ⟨σ_51, eσ_51, hf⟩ := ob hf
  refine g_put X I pfX13_111 rfl rfl eσ_51 dX13_next_126 (fun H locs I => ?_)
  refine lv_aload_n hx hb dX13_next_129 rfl (lv_at hl 0 rfl) ?_
  refine lv_aload_n hx hb dX13_next_130 rfl (lv_at hl 0 rfl) ?_
  obtain ⟨u_52, eu_52, hf⟩ := ob hf
  obtain ⟨v_53, ev_53, hf⟩ := ob hf
  refine cg_V (vw := (RX13, TX13, 17)) (ci := 11) (r := (some (.int v_53))) (σ' := σ_51) (rs := [.int v_53, .ref x0]) (rest := [.ref x0]) (As := []) X I eu_52 rfl (mX13_leaving hX ev_53) lvX13_131 hdX13_131 ⟨Nat.le_trans (Nat.le_of_ble_eq_true rfl) hR.1, Nat.le_trans (Nat.le_of_ble_eq_true rfl) hR.2⟩ rfl hl.1 rfl (Nat.le_of_ble_eq_true rfl) rfl dX13_next_131 (fun H locs cells slots I => ?_)
  obtain ⟨σ_55, eσ_55, hf⟩ := ob hf
  refine g_put X I pfX13_134 rfl rfl eσ_55 dX13_next_134 (fun H locs I => ?_)
  refine lv_aload_n hx hb dX13_next_137 rfl (lv_at hl 0 rfl) ?_
  refine lv_aload_n hx hb dX13_next_138 rfl (lv_at hl 0 rfl) ?_
  obtain ⟨v_56, ev_56, hf⟩ := ob hf
  refine g_get X I gfX13_134 (gI_in ev_56) dX13_next_139 ?_
  refine lv_aload_n hx hb dX13_next_142 rfl (lv_at hl 0 rfl) ?_
  obtain ⟨v_57, ev_57, hf⟩ := ob hf
  refine g_get X I gfX13_40 (gI_in ev_57) dX13_next_143 ?_
  refine lv_isub hx hb dX13_next_146 ?_
  refine lv_aload_n hx hb dX13_next_147 rfl (lv_at hl 0 rfl) ?_
  obtain ⟨v_58, ev_58, hf⟩ := ob hf
  refine g_get X I gfX13_15 (gR_in ev_58) dX13_next_148 ?_
  obtain ⟨a_59, ea_59, hga_59⟩ := ob hf
  have hla_59 := hl
  have Ia_59 := I
  subst ea_59
  have hf := hga_59
  have hl := hla_59
  have I := Ia_59
  obtain ⟨v_60, ev_60, hf⟩ := ob hf
  refine g_getN hX X I gfX13_137 (gR_in ev_60) dX13_next_151 ?_
  refine lv_bipush (v := 6) hx hb dX13_next_154 (by decide) ?_
  obtain ⟨a_61, ea_61, hga_61⟩ := ob hf
  have hla_61 := hl
  have Ia_61 := I
  subst ea_61
  have hf := hga_61
  have hl := hla_61
  have I := Ia_61
  obtain ⟨v_62, ev_62, hf⟩ := ob hf
  refine g_iald X I ev_62 dX13_next_156 ?_
  refine lv_icmp_lt (tgt := 164) hx hb dX13_next_157 (by decide) (fun c_157 => ?_) (fun c_157 => ?_)
  · have hf := ip c_157 hf
    refine lv_aload_n hx hb dX13_next_164 rfl (lv_at hl 0 rfl) ?_
    obtain ⟨v_63, ev_63, hf⟩ := ob hf
    refine g_get X I gfX13_44 (gI_in ev_63) dX13_next_165 ?_
    exact wX13_next_168 hX hR X x0 x1 x0 v_63 σ_55 _ _ _ _ _ I (lv_sub hl [0, 1] rfl) hf
  · have hf := im c_157 hf
    refine lv_iconst (v := 0) hx hb dX13_next_160 (by decide) ?_
    refine lv_goto (tgt := 168) hx hb dX13_next_161 (by decide) ?_
    exact wX13_next_168 hX hR X x0 x1 x0 (0 : Int32) σ_55 _ _ _ _ _ I (lv_sub hl [0, 1] rfl) hf
theorem wX13_next_73 {E : EV} {l : Launch} {p : Program} {e : Env} {s : State} {m : MethodId} {args : Array Value} {below : List Frame} {meth : Method} {c : Code} {R : Room} {res : St} (hX : XK E) (hR : 3 ≤ R.frames ∧ 64 ≤ R.locals) (X : MX E p s m args meth c cX13_next 2 none RX13 "next") : ∀ (x0 : Nat) (y0 : Int32) (σ : St) (H : Heap) (locs : List Loc) (cells slots : Nat) (ls : Array Slot), WI E R s σ H locs cells slots → lv_has ls 2 [(0, .ref x0)] → fX13_next_73 x0 y0 σ = some res → W p l e R s m args below meth c H locs cells slots (MQ below (Qd E R.cells R.slots none res) args s R.cells R.slots (fr E)) (F0 m 73 ls [.int y0]) := by
  intro x0 y0 σ H locs cells slots ls I hl hf
  obtain ⟨⟨hx, hb, hml, hown, hts⟩, -⟩ := id X
  unfold fX13_next_73 at hf
  refine lv_istore_n (lv' := [(1, .int y0), (0, .ref x0)]) hx hb dX13_next_73 rfl hl (by decide) rfl (fun ls hl => ?_)
  refine lv_aload_n hx hb dX13_next_74 rfl (lv_at hl 1 rfl) ?_
  refine lv_aload_n hx hb dX13_next_75 rfl (lv_at hl 1 rfl) ?_
  obtain ⟨v_64, ev_64, hf⟩ := ob hf
  refine g_get X I gfX13_15 (gR_in ev_64) dX13_next_76 ?_
  obtain ⟨a_65, ea_65, hga_65⟩ := ob hf
  have hla_65 := hl
  have Ia_65 := I
  subst ea_65
  have hf := hga_65
  have hl := hla_65
  have I := Ia_65
  obtain ⟨v_66, ev_66, hf⟩ := ob hf
  refine g_getN hX X I gfX13_122 (gR_in ev_66) dX13_next_79 ?_
  obtain ⟨a_67, ea_67, hga_67⟩ := ob hf
  have hla_67 := hl
  have Ia_67 := I
  subst ea_67
  have hf := hga_67
  have hl := hla_67
  have I := Ia_67
  obtain ⟨v_68, ev_68, hf⟩ := ob hf
  refine g_getN hX X I gfX13_126 (gR_in ev_68) dX13_next_82 ?_
  refine lv_aload_n hx hb dX13_next_85 rfl (lv_at hl 1 rfl) ?_
  obtain ⟨v_69, ev_69, hf⟩ := ob hf
  refine g_get X I gfX13_36 (gI_in ev_69) dX13_next_86 ?_
  obtain ⟨a_70, ea_70, hga_70⟩ := ob hf
  have hla_70 := hl
  have Ia_70 := I
  subst ea_70
  have hf := hga_70
  have hl := hla_70
  have I := Ia_70
  obtain ⟨v_71, ev_71, hf⟩ := ob hf
  refine g_aald X I (by decide) rfl ev_71 dX13_next_89 ?_
  refine lv_iload_n hx hb dX13_next_90 rfl (lv_at hl 0 rfl) ?_
  obtain ⟨a_72, ea_72, hga_72⟩ := ob hf
  have hla_72 := hl
  have Ia_72 := I
  subst ea_72
  have hf := hga_72
  have hl := hla_72
  have I := Ia_72
  obtain ⟨v_73, ev_73, hf⟩ := ob hf
  refine g_iald X I ev_73 dX13_next_91 ?_
  obtain ⟨σ_74, eσ_74, hf⟩ := ob hf
  refine g_put X I pfX13_111 rfl rfl eσ_74 dX13_next_92 (fun H locs I => ?_)
  refine lv_aload_n hx hb dX13_next_95 rfl (lv_at hl 1 rfl) ?_
  refine lv_dup hx hb dX13_next_96 rfl ?_
  obtain ⟨v_75, ev_75, hf⟩ := ob hf
  refine g_get X I gfX13_54 (gI_in ev_75) dX13_next_97 ?_
  refine lv_aload_n hx hb dX13_next_100 rfl (lv_at hl 1 rfl) ?_
  obtain ⟨v_76, ev_76, hf⟩ := ob hf
  refine g_get X I gfX13_111 (gI_in ev_76) dX13_next_101 ?_
  refine lv_iconst (v := (-1)) hx hb dX13_next_104 (by decide) ?_
  refine lv_icmp_ne (tgt := 112) hx hb dX13_next_105 (by decide) (fun c_105 => ?_) (fun c_105 => ?_)
  · have hf := im c_105 hf
    refine lv_iconst (v := 0) hx hb dX13_next_112 (by decide) ?_
    exact wX13_next_113 hX hR X x0 y0 x0 v_75 (0 : Int32) σ_74 _ _ _ _ _ I (lv_sub hl [1, 0] rfl) hf
  · have hf := ip c_105 hf
    refine lv_iconst (v := 1) hx hb dX13_next_108 (by decide) ?_
    refine lv_goto (tgt := 113) hx hb dX13_next_109 (by decide) ?_
    exact wX13_next_113 hX hR X x0 y0 x0 v_75 (1 : Int32) σ_74 _ _ _ _ _ I (lv_sub hl [1, 0] rfl) hf
theorem wX13_next_0 {E : EV} {l : Launch} {p : Program} {e : Env} {s : State} {m : MethodId} {args : Array Value} {below : List Frame} {meth : Method} {c : Code} {R : Room} {res : St} (hX : XK E) (hR : 3 ≤ R.frames ∧ 64 ≤ R.locals) (X : MX E p s m args meth c cX13_next 2 none RX13 "next") : ∀ (x0 : Nat) (σ : St) (H : Heap) (locs : List Loc) (cells slots : Nat) (ls : Array Slot), WI E R s σ H locs cells slots → lv_has ls 2 [(0, .ref x0)] → fX13_next σ x0 = some res → W p l e R s m args below meth c H locs cells slots (MQ below (Qd E R.cells R.slots none res) args s R.cells R.slots (fr E)) (F0 m 0 ls []) := by
  intro x0 σ H locs cells slots ls I hl hf
  obtain ⟨⟨hx, hb, hml, hown, hts⟩, -⟩ := id X
  unfold fX13_next at hf
  refine lv_aload_n hx hb dX13_next_0 rfl (lv_at hl 0 rfl) ?_
  refine lv_aload_n hx hb dX13_next_1 rfl (lv_at hl 0 rfl) ?_
  obtain ⟨v_77, ev_77, hf⟩ := ob hf
  refine g_get X I gfX13_23 (gR_in ev_77) dX13_next_2 ?_
  refine lv_aload_n hx hb dX13_next_5 rfl (lv_at hl 0 rfl) ?_
  obtain ⟨v_78, ev_78, hf⟩ := ob hf
  refine g_get X I gfX13_27 (gI_in ev_78) dX13_next_6 ?_
  obtain ⟨a_79, ea_79, hga_79⟩ := ob hf
  have hla_79 := hl
  have Ia_79 := I
  subst ea_79
  have hf := hga_79
  have hl := hla_79
  have I := Ia_79
  obtain ⟨u_80, eu_80, hf⟩ := ob hf
  obtain ⟨v_81, ev_81, hf⟩ := ob hf
  refine cg_F (vw := (RJ2, TJ2, 3)) (ci := 21) (r := (some (va_rf v_81))) (σ' := σ) (rs := [va_rf v_81, .ref x0]) (rest := [.ref x0]) (As := [.int v_78]) hX X I eu_80 rfl (mJ2_get hX ev_81) lvX13_67_J2 hdX13_67_J2 ⟨Nat.le_trans (Nat.le_of_ble_eq_true rfl) hR.1, Nat.le_trans (Nat.le_of_ble_eq_true rfl) hR.2⟩ rfl hl.1 rfl (Nat.le_of_ble_eq_true rfl) rfl dX13_next_9 (fun H locs cells slots I => ?_)
  obtain ⟨a_83, ea_83, hga_83⟩ := ob hf
  have hla_83 := hl
  have Ia_83 := I
  subst ea_83
  have hf := hga_83
  have hl := hla_83
  have I := Ia_83
  obtain ⟨u_84, eu_84, hf⟩ := ob hf
  refine g_cast (vw := (RX15, TX15, 2)) X I rfl q1725 eu_84 dX13_next_14 ?_
  obtain ⟨σ_85, eσ_85, hf⟩ := ob hf
  refine g_put X I pfX13_95 rfl rfl eσ_85 dX13_next_17 (fun H locs I => ?_)
  refine lv_aload_n hx hb dX13_next_20 rfl (lv_at hl 0 rfl) ?_
  refine lv_aload_n hx hb dX13_next_21 rfl (lv_at hl 0 rfl) ?_
  obtain ⟨v_86, ev_86, hf⟩ := ob hf
  refine g_get X I gfX13_15 (gR_in ev_86) dX13_next_22 ?_
  obtain ⟨a_87, ea_87, hga_87⟩ := ob hf
  have hla_87 := hl
  have Ia_87 := I
  subst ea_87
  have hf := hga_87
  have hl := hla_87
  have I := Ia_87
  obtain ⟨v_88, ev_88, hf⟩ := ob hf
  refine g_getN hX X I gfX13_76 (gR_in ev_88) dX13_next_25 ?_
  refine lv_aload_n hx hb dX13_next_28 rfl (lv_at hl 0 rfl) ?_
  obtain ⟨v_89, ev_89, hf⟩ := ob hf
  refine g_get X I gfX13_95 (gR_in ev_89) dX13_next_29 ?_
  obtain ⟨a_90, ea_90, hga_90⟩ := ob hf
  have hla_90 := hl
  have Ia_90 := I
  subst ea_90
  have hf := hga_90
  have hl := hla_90
  have I := Ia_90
  obtain ⟨v_91, ev_91, hf⟩ := ob hf
  refine g_getN hX X I gfX13_114 (gI_in ev_91) dX13_next_32 ?_
  obtain ⟨a_92, ea_92, hga_92⟩ := ob hf
  have hla_92 := hl
  have Ia_92 := I
  subst ea_92
  have hf := hga_92
  have hl := hla_92
  have I := Ia_92
  obtain ⟨u_93, eu_93, hf⟩ := ob hf
  obtain ⟨v_94, ev_94, hf⟩ := ob hf
  refine cg_F (vw := (RJ2, TJ2, 3)) (ci := 21) (r := (some (va_rf v_94))) (σ' := σ_85) (rs := [va_rf v_94, .ref x0]) (rest := [.ref x0]) (As := [.int v_91]) hX X I eu_93 rfl (mJ2_get hX ev_94) lvX13_67_J2 hdX13_67_J2 ⟨Nat.le_trans (Nat.le_of_ble_eq_true rfl) hR.1, Nat.le_trans (Nat.le_of_ble_eq_true rfl) hR.2⟩ rfl hl.1 rfl (Nat.le_of_ble_eq_true rfl) rfl dX13_next_35 (fun H locs cells slots I => ?_)
  obtain ⟨a_96, ea_96, hga_96⟩ := ob hf
  have hla_96 := hl
  have Ia_96 := I
  subst ea_96
  have hf := hga_96
  have hl := hla_96
  have I := Ia_96
  obtain ⟨u_97, eu_97, hf⟩ := ob hf
  refine g_cast (vw := (RX16, TX16, 15)) X I rfl q1720 eu_97 dX13_next_40 ?_
  obtain ⟨σ_98, eσ_98, hf⟩ := ob hf
  refine g_put X I pfX13_104 rfl rfl eσ_98 dX13_next_43 (fun H locs I => ?_)
  refine lv_aload_n hx hb dX13_next_46 rfl (lv_at hl 0 rfl) ?_
  obtain ⟨v_99, ev_99, hf⟩ := ob hf
  refine g_get X I gfX13_95 (gR_in ev_99) dX13_next_47 ?_
  obtain ⟨a_100, ea_100, hga_100⟩ := ob hf
  have hla_100 := hl
  have Ia_100 := I
  subst ea_100
  have hf := hga_100
  have hl := hla_100
  have I := Ia_100
  obtain ⟨v_101, ev_101, hf⟩ := ob hf
  refine g_getN hX X I gfX13_99 (gI_in ev_101) dX13_next_50 ?_
  refine lv_if_eq (tgt := 66) hx hb dX13_next_53 (by decide) (fun c_53 => ?_) (fun c_53 => ?_)
  · have hf := ip c_53 hf
    refine lv_aload_n hx hb dX13_next_66 rfl (lv_at hl 0 rfl) ?_
    obtain ⟨v_102, ev_102, hf⟩ := ob hf
    refine g_get X I gfX13_104 (gR_in ev_102) dX13_next_67 ?_
    obtain ⟨a_103, ea_103, hga_103⟩ := ob hf
    have hla_103 := hl
    have Ia_103 := I
    subst ea_103
    have hf := hga_103
    have hl := hla_103
    have I := Ia_103
    obtain ⟨v_104, ev_104, hf⟩ := ob hf
    refine g_getN hX X I gfX13_119 (gI_in ev_104) dX13_next_70 ?_
    exact wX13_next_73 hX hR X x0 v_104 σ_98 _ _ _ _ _ I (lv_sub hl [0] rfl) hf
  · have hf := im c_53 hf
    refine lv_aload_n hx hb dX13_next_56 rfl (lv_at hl 0 rfl) ?_
    obtain ⟨v_105, ev_105, hf⟩ := ob hf
    refine g_get X I gfX13_104 (gR_in ev_105) dX13_next_57 ?_
    obtain ⟨a_106, ea_106, hga_106⟩ := ob hf
    have hla_106 := hl
    have Ia_106 := I
    subst ea_106
    have hf := hga_106
    have hl := hla_106
    have I := Ia_106
    obtain ⟨v_107, ev_107, hf⟩ := ob hf
    refine g_getN hX X I gfX13_116 (gI_in ev_107) dX13_next_60 ?_
    refine lv_goto (tgt := 73) hx hb dX13_next_63 (by decide) ?_
    exact wX13_next_73 hX hR X x0 v_107 σ_98 _ _ _ _ _ I (lv_sub hl [0] rfl) hf
theorem mX13_next {E : EV} {l : Launch} {σ : St} {x0 : Nat} {res : St} (hX : XK E) (hf : fX13_next σ x0 = some res) : CM E l yX13_next (ws_ yX13_next cX13_next 2 none) 3 64 [.ref x0] σ none res := by
  refine CM.of hX.1 (by decide) rfl rfl (Nat.le_of_ble_eq_true rfl) ?_
  intro p e s m below meth c X I ls hl
  exact wX13_next_0 hX ⟨Nat.le_refl _, Nat.le_refl _⟩ X _ _ _ _ _ _ _ I hl hf
/-! SharedTaxis.stop(III)I imp=True fuel=True kap=False rt=I thr=True -/
theorem lvX1_282 : GoodIn lw_all (wsV RX1 282 RX13 yX13_next (ws_ yX13_next cX13_next 2 none)) := lw_V q1721 q1722 q1723 q149 q1724
theorem hdX1_282 : yX13_next.cls = RX13 ∧ yX13_next.cls ≠ "java/lang/invoke/MethodHandle" ∧ yX13_next.cls ≠ "java/lang/invoke/VarHandle" ∧ (parseMethodDescriptor yX13_next.desc).map (fun d => d.parameters.length) = some 0 := by decide +kernel
theorem gfX1_284 : ∀ q ∈ ([(11, 3)] : List (Nat × Nat)), GN RX1 284 q := List.forall_mem_cons.mpr ⟨⟨RX13, TX13, 17, _, rfl, in_X13, by decide, q1642⟩, fun _ h => by cases h⟩
theorem gfX1_287 : ∀ q ∈ ([(11, 7)] : List (Nat × Nat)), GN RX1 287 q := List.forall_mem_cons.mpr ⟨⟨RX13, TX13, 17, _, rfl, in_X13, by decide, q1651⟩, fun _ h => by cases h⟩
theorem gfX1_291 : ∀ q ∈ ([(13, 0)] : List (Nat × Nat)), GN RX1 291 q := List.forall_mem_cons.mpr ⟨⟨RX15, TX15, 2, _, rfl, in_X15, by decide, q1821⟩, fun _ h => by cases h⟩
theorem gfX1_295 : ∀ q ∈ ([(13, 1)] : List (Nat × Nat)), GN RX1 295 q := List.forall_mem_cons.mpr ⟨⟨RX15, TX15, 2, _, rfl, in_X15, by decide, q1827⟩, fun _ h => by cases h⟩
theorem gfX1_299 : ∀ q ∈ ([(11, 4)] : List (Nat × Nat)), GN RX1 299 q := List.forall_mem_cons.mpr ⟨⟨RX13, TX13, 17, _, rfl, in_X13, by decide, q1645⟩, fun _ h => by cases h⟩
theorem gfX1_300 : ∀ q ∈ ([(11, 10)] : List (Nat × Nat)), GN RX1 300 q := List.forall_mem_cons.mpr ⟨⟨RX13, TX13, 17, _, rfl, in_X13, by decide, q1661⟩, fun _ h => by cases h⟩
theorem gfX1_303 : ∀ q ∈ ([(11, 11)] : List (Nat × Nat)), GN RX1 303 q := List.forall_mem_cons.mpr ⟨⟨RX13, TX13, 17, _, rfl, in_X13, by decide, q1665⟩, fun _ h => by cases h⟩
theorem gfX1_306 : ∀ q ∈ ([(11, 12)] : List (Nat × Nat)), GN RX1 306 q := List.forall_mem_cons.mpr ⟨⟨RX13, TX13, 17, _, rfl, in_X13, by decide, q1668⟩, fun _ h => by cases h⟩
theorem noX1_274 : NO RX1 274 11 17 [.null, .null, .null, .int 0, .int 0, .int 0, .int 0, .null, .null, .int 0, .int 0, .int 0, .int 0, .int 0, .int 0, .int 0, .null] := ⟨RX13, TX13, tyX13, rfl, in_X13, tyX13_ok, by decide, q1632, q1633, q149⟩
theorem lvX1_276 : GoodIn lw_all (ws_ yX13_init cX13_init 2 none) ∧ Cond.initialized yX13_init.cls ∈ lw_all ∧ Cond.methodLink RX1 276 yX13_init ∈ lw_all ∧ Cond.instanceMethod yX13_init ∈ lw_all ∧ yX13_init.name = "<init>" := ⟨lw_meth q1636, q149, q1634, q1635, rfl⟩
theorem hdX1_276 : yX13_init.cls ≠ "java/lang/invoke/MethodHandle" ∧ yX13_init.cls ≠ "java/lang/invoke/VarHandle" ∧ (parseMethodDescriptor yX13_init.desc).map (fun d => d.parameters.length) = some 1 := by decide +kernel
theorem lvX1_279 : GoodIn lw_all (wsV RX1 279 RX13 yX13_begin (ws_ yX13_begin cX13_begin 4 (some (.object "SharedTaxis$Walk")))) := lw_V q1709 q1710 q1711 q149 q1712
theorem hdX1_279 : yX13_begin.cls = RX13 ∧ yX13_begin.cls ≠ "java/lang/invoke/MethodHandle" ∧ yX13_begin.cls ≠ "java/lang/invoke/VarHandle" ∧ (parseMethodDescriptor yX13_begin.desc).map (fun d => d.parameters.length) = some 2 := by decide +kernel
def fX1_stop_72 (N : Nat) : Nat → Int32 → Int32 → Nat → St → Option ((Int32 ⊕ Nat) × St)
  | 0, _, _, _, _ => none
  | n + 1, x2, x3, x5, σ => (isC σ x5 11).bind fun u_1 : Unit => (fX13_next σ x5).bind fun σ_3 : St => (gI σ_3 x5 [(11, 3)]).bind fun v_4 : Int32 => if v_4 ≤ x2 then fX1_stop_72 N n x2 x3 x5 σ_3 else if x3 = 0 then (gR σ_3 x5 [(11, 7)]).bind fun v_5 : Option Nat => (v_5).bind fun a_6 : Nat => (gI σ_3 a_6 [(13, 0)]).bind fun v_7 : Int32 => some (.inl v_7, σ_3) else if x3 = 1 then (gR σ_3 x5 [(11, 7)]).bind fun v_8 : Option Nat => (v_8).bind fun a_9 : Nat => (gI σ_3 a_9 [(13, 1)]).bind fun v_10 : Int32 => if v_10 = 0 then some (.inl (0 : Int32), σ_3) else some (.inl (1 : Int32), σ_3) else if x3 = 2 then (gI σ_3 x5 [(11, 4)]).bind fun v_11 : Int32 => some (.inl v_11, σ_3) else if x3 = 3 then (gI σ_3 x5 [(11, 10)]).bind fun v_12 : Int32 => some (.inl v_12, σ_3) else if x3 = 4 then (gI σ_3 x5 [(11, 11)]).bind fun v_13 : Int32 => some (.inl v_13, σ_3) else (gI σ_3 x5 [(11, 12)]).bind fun v_14 : Int32 => some (.inl v_14, σ_3)
def fX1_stop_46 (N : Nat) (x0 : Nat) (x2 : Int32) (x3 : Int32) (x4 : Nat) (y0 : Int32) (σ : St) : Option ((Int32 ⊕ Nat) × St) := (fX1_requireExists σ y0).bind fun (v_15, σ_16) => se v_15 (fun v_17 => (nH σ_16 17 (.inr (11, [.null, .null, .null, .int 0, .int 0, .int 0, .int 0, .null, .null, .int 0, .int 0, .int 0, .int 0, .int 0, .int 0, .int 0, .null]))).bind fun (q_19a, q_19s) => (gR q_19s x0 [(0, 3)]).bind fun v_20 : Option Nat => (v_20).bind fun a_21 : Nat => (fX13_init q_19s q_19a a_21).bind fun σ_23 : St => (gR σ_23 x4 [(10, 7)]).bind fun v_24 : Option Nat => (v_24).bind fun a_25 : Nat => (isC σ_23 q_19a 11).bind fun u_26 : Unit => (fX13_begin N σ_23 q_19a x4 a_25).bind fun (v_27, σ_28) => fX1_stop_72 N N x2 x3 v_27 σ_28) (fun q_18 => (isX σ_16 q_18).bind fun uq_18 : Unit => some (.inr q_18, σ_16))
def fX1_stop_45 (N : Nat) (x0 : Nat) (x2 : Int32) (x3 : Int32) (x4 : Nat) (σ : St) : Option ((Int32 ⊕ Nat) × St) := fX1_stop_46 N x0 x2 x3 x4 (0 : Int32) σ
def fX1_stop (N : Nat) (σ : St) (x0 : Nat) (x1 : Int32) (x2 : Int32) (x3 : Int32) : Option ((Int32 ⊕ Nat) × St) := (isC σ x0 0).bind fun u_29 : Unit => (fX1_taxiAt σ x0 x1).bind fun (v_30, σ_31) => se v_30 (fun v_32 => (gR σ_31 v_32 [(10, 7)]).bind fun v_34 : Option Nat => (v_34).bind fun a_35 : Nat => (isC σ_31 a_35 21).bind fun u_36 : Unit => (fJ2_size σ_31 a_35).bind fun v_37 : Int32 => (fX1_inRange σ_31 (x2.toInt64) (0 : Int64) ((v_37 - (1 : Int32)).toInt64)).bind fun v_39 : Int32 => if v_39 = 0 then fX1_stop_45 N x0 x2 x3 v_32 σ_31 else (fX1_inRange σ_31 (x3.toInt64) (0 : Int64) (5 : Int64)).bind fun v_41 : Int32 => if v_41 = 0 then fX1_stop_45 N x0 x2 x3 v_32 σ_31 else fX1_stop_46 N x0 x2 x3 v_32 (1 : Int32) σ_31) (fun q_33 => (isX σ_31 q_33).bind fun uq_33 : Unit => some (.inr q_33, σ_31))
theorem wX1_stop_72 {E : EV} {l : Launch} {p : Program} {e : Env} {s : State} {m : MethodId} {args : Array Value} {below : List Frame} {meth : Method} {c : Code} {R : Room} {res : ((Int32 ⊕ Nat) × St)} (hX : XK E) (hR : 8 ≤ R.frames ∧ 130 ≤ R.locals) (X : MX E p s m args meth c cX1_stop 6 (some .int) RX1 "stop") (XH : MH c []) (hS : l.stackTraces = false) (N : Nat) : ∀ (n : Nat) (x2 : Int32) (x3 : Int32) (x5 : Nat) (σ : St) (H : Heap) (locs : List Loc) (cells slots : Nat) (ls : Array Slot), WI E R s σ H locs cells slots → lv_has ls 6 [(2, .int x2), (3, .int x3), (5, .ref x5)] → fX1_stop_72 N n x2 x3 x5 σ = some res → W p l e R s m args below meth c H locs cells slots (vx_MQ below (QS E R.cells R.slots (sv (fun v => (some (.int v))) res.1) res.2) (XS E R.cells R.slots (sx res.1) res.2) args s R.cells R.slots (fr E)) (F0 m 72 ls []) := by
  intro n
  induction n with
  | zero => intro x2 x3 x5 σ H locs cells slots ls I hl hf; exact nomatch (show none = some res from hf)
  | succ n ih =>
    intro x2 x3 x5 σ H locs cells slots ls I hl hf
    obtain ⟨⟨hx, hb, hml, hown, hts⟩, -⟩ := id X
    rw [fX1_stop_72.eq_2] at hf
    refine lv_aload hx hb dX1_stop_72 (lv_at hl 2 rfl) ?_
    obtain ⟨u_1, eu_1, hf⟩ := ob hf
    obtain ⟨σ_3, ev_2, hf⟩ := ob hf
    refine cg_V (vw := (RX13, TX13, 17)) (ci := 11) (r := none) (σ' := σ_3) (rs := []) (rest := []) (As := []) X I eu_1 rfl (mX13_next hX ev_2) lvX1_282 hdX1_282 ⟨Nat.le_trans (Nat.le_of_ble_eq_true rfl) hR.1, Nat.le_trans (Nat.le_of_ble_eq_true rfl) hR.2⟩ rfl hl.1 rfl (Nat.le_of_ble_eq_true rfl) rfl dX1_stop_74 (fun H locs cells slots I => ?_)
    refine lv_aload hx hb dX1_stop_77 (lv_at hl 2 rfl) ?_
    obtain ⟨v_4, ev_4, hf⟩ := ob hf
    refine g_getN hX X I gfX1_284 (gI_in ev_4) dX1_stop_79 ?_
    refine lv_iload_n hx hb dX1_stop_82 rfl (lv_at hl 0 rfl) ?_
    refine lv_icmp_le (tgt := 72) hx hb dX1_stop_83 (by decide) (fun c_83 => ?_) (fun c_83 => ?_)
    · have hf := ip c_83 hf
      exact ih x2 x3 x5 σ_3 _ _ _ _ _ I (lv_sub hl [0, 1, 2] rfl) hf
    · have hf := im c_83 hf
      refine lv_iload_n hx hb dX1_stop_86 rfl (lv_at hl 1 rfl) ?_
      by_cases c_87_0 : x3 = 0
      · have hf := ip c_87_0 hf
        refine lv_tableIn (off := 33) (tgt := 120) hx hb dX1_stop_87 (by rw [c_87_0]; decide) (by rw [c_87_0]; decide) (by rw [c_87_0]; rfl) (by decide) ?_
        refine lv_aload hx hb dX1_stop_120 (lv_at hl 2 rfl) ?_
        obtain ⟨v_5, ev_5, hf⟩ := ob hf
        refine g_getN hX X I gfX1_287 (gR_in ev_5) dX1_stop_122 ?_
        obtain ⟨a_6, ea_6, hga_6⟩ := ob hf
        have hla_6 := hl
        have Ia_6 := I
        subst ea_6
        have hf := hga_6
        have hl := hla_6
        have I := Ia_6
        obtain ⟨v_7, ev_7, hf⟩ := ob hf
        refine g_getN hX X I gfX1_291 (gI_in ev_7) dX1_stop_125 ?_
        refine lv_goto (tgt := 179) hx hb dX1_stop_128 (by decide) ?_
        cases os hf
        exact x_ret (r_iret X I dX1_stop_179)
      · have hf := im c_87_0 hf
        by_cases c_87_1 : x3 = 1
        · have hf := ip c_87_1 hf
          refine lv_tableIn (off := 44) (tgt := 131) hx hb dX1_stop_87 (by rw [c_87_1]; decide) (by rw [c_87_1]; decide) (by rw [c_87_1]; rfl) (by decide) ?_
          refine lv_aload hx hb dX1_stop_131 (lv_at hl 2 rfl) ?_
          obtain ⟨v_8, ev_8, hf⟩ := ob hf
          refine g_getN hX X I gfX1_287 (gR_in ev_8) dX1_stop_133 ?_
          obtain ⟨a_9, ea_9, hga_9⟩ := ob hf
          have hla_9 := hl
          have Ia_9 := I
          subst ea_9
          have hf := hga_9
          have hl := hla_9
          have I := Ia_9
          obtain ⟨v_10, ev_10, hf⟩ := ob hf
          refine g_getN hX X I gfX1_295 (gI_in ev_10) dX1_stop_136 ?_
          refine lv_if_eq (tgt := 146) hx hb dX1_stop_139 (by decide) (fun c_139 => ?_) (fun c_139 => ?_)
          · have hf := ip c_139 hf
            refine lv_iconst (v := 0) hx hb dX1_stop_146 (by decide) ?_
            refine lv_goto (tgt := 179) hx hb dX1_stop_147 (by decide) ?_
            cases os hf
            exact x_ret (r_iret X I dX1_stop_179)
          · have hf := im c_139 hf
            refine lv_iconst (v := 1) hx hb dX1_stop_142 (by decide) ?_
            refine lv_goto (tgt := 179) hx hb dX1_stop_143 (by decide) ?_
            cases os hf
            exact x_ret (r_iret X I dX1_stop_179)
        · have hf := im c_87_1 hf
          by_cases c_87_2 : x3 = 2
          · have hf := ip c_87_2 hf
            refine lv_tableIn (off := 63) (tgt := 150) hx hb dX1_stop_87 (by rw [c_87_2]; decide) (by rw [c_87_2]; decide) (by rw [c_87_2]; rfl) (by decide) ?_
            refine lv_aload hx hb dX1_stop_150 (lv_at hl 2 rfl) ?_
            obtain ⟨v_11, ev_11, hf⟩ := ob hf
            refine g_getN hX X I gfX1_299 (gI_in ev_11) dX1_stop_152 ?_
            refine lv_goto (tgt := 179) hx hb dX1_stop_155 (by decide) ?_
            cases os hf
            exact x_ret (r_iret X I dX1_stop_179)
          · have hf := im c_87_2 hf
            by_cases c_87_3 : x3 = 3
            · have hf := ip c_87_3 hf
              refine lv_tableIn (off := 71) (tgt := 158) hx hb dX1_stop_87 (by rw [c_87_3]; decide) (by rw [c_87_3]; decide) (by rw [c_87_3]; rfl) (by decide) ?_
              refine lv_aload hx hb dX1_stop_158 (lv_at hl 2 rfl) ?_
              obtain ⟨v_12, ev_12, hf⟩ := ob hf
              refine g_getN hX X I gfX1_300 (gI_in ev_12) dX1_stop_160 ?_
              refine lv_goto (tgt := 179) hx hb dX1_stop_163 (by decide) ?_
              cases os hf
              exact x_ret (r_iret X I dX1_stop_179)
            · have hf := im c_87_3 hf
              by_cases c_87_4 : x3 = 4
              · have hf := ip c_87_4 hf
                refine lv_tableIn (off := 79) (tgt := 166) hx hb dX1_stop_87 (by rw [c_87_4]; decide) (by rw [c_87_4]; decide) (by rw [c_87_4]; rfl) (by decide) ?_
                refine lv_aload hx hb dX1_stop_166 (lv_at hl 2 rfl) ?_
                obtain ⟨v_13, ev_13, hf⟩ := ob hf
                refine g_getN hX X I gfX1_303 (gI_in ev_13) dX1_stop_168 ?_
                refine lv_goto (tgt := 179) hx hb dX1_stop_171 (by decide) ?_
                cases os hf
                exact x_ret (r_iret X I dX1_stop_179)
              · have hf := im c_87_4 hf
                refine lv_tableOut (tgt := 174) hx hb dX1_stop_87 (by exact sw_out 0 4 (fun k h1 h2 => by rcases (show k = 0 ∨ k = 1 ∨ k = 2 ∨ k = 3 ∨ k = 4 by omega) with rfl | rfl | rfl | rfl | rfl; exact c_87_0; exact c_87_1; exact c_87_2; exact c_87_3; exact c_87_4)) (by decide) ?_
                refine lv_aload hx hb dX1_stop_174 (lv_at hl 2 rfl) ?_
                obtain ⟨v_14, ev_14, hf⟩ := ob hf
                refine g_getN hX X I gfX1_306 (gI_in ev_14) dX1_stop_176 ?_
                cases os hf
                exact x_ret (r_iret X I dX1_stop_179)
theorem wX1_stop_46 {E : EV} {l : Launch} {p : Program} {e : Env} {s : State} {m : MethodId} {args : Array Value} {below : List Frame} {meth : Method} {c : Code} {R : Room} {res : ((Int32 ⊕ Nat) × St)} (hX : XK E) (hR : 8 ≤ R.frames ∧ 130 ≤ R.locals) (X : MX E p s m args meth c cX1_stop 6 (some .int) RX1 "stop") (XH : MH c []) (hS : l.stackTraces = false) (N : Nat) : ∀ (x0 : Nat) (x2 : Int32) (x3 : Int32) (x4 : Nat) (y0 : Int32) (σ : St) (H : Heap) (locs : List Loc) (cells slots : Nat) (ls : Array Slot), WI E R s σ H locs cells slots → lv_has ls 6 [(0, .ref x0), (2, .int x2), (3, .int x3), (4, .ref x4)] → fX1_stop_46 N x0 x2 x3 x4 y0 σ = some res → W p l e R s m args below meth c H locs cells slots (vx_MQ below (QS E R.cells R.slots (sv (fun v => (some (.int v))) res.1) res.2) (XS E R.cells R.slots (sx res.1) res.2) args s R.cells R.slots (fr E)) (F0 m 46 ls [.int y0]) := by
  intro x0 x2 x3 x4 y0 σ H locs cells slots ls I hl hf
  obtain ⟨⟨hx, hb, hml, hown, hts⟩, -⟩ := id X
  unfold fX1_stop_46 at hf
  obtain ⟨⟨v_15, σ_16⟩, ev_15, hf⟩ := ob hf
  have hgv_15 := hf
  rcases v_15 with v_17 | q_18
  · have hf := se_l hgv_15
    refine cx_ret (r := none) (rs := []) I (xr_S (σ' := σ_16) (rest := []) (As := [.int y0]) X I (mX1_requireExists hX hS ev_15) lvX1_129 hdX1_129 ⟨Nat.le_trans (Nat.le_of_ble_eq_true rfl) hR.1, Nat.le_trans (Nat.le_of_ble_eq_true rfl) hR.2⟩ rfl hl.1 rfl (Nat.le_of_ble_eq_true rfl) dX1_stop_46) rfl (fun H locs cells slots I => ?_)
    obtain ⟨⟨q_19a, q_19s⟩, eq_19, hf⟩ := ob hf
    refine g_new X I noX1_274 eq_19 dX1_stop_49 (fun H locs cells slots I => ?_)
    refine lv_dup hx hb dX1_stop_52 rfl ?_
    refine lv_aload_n hx hb dX1_stop_53 rfl (lv_at hl 0 rfl) ?_
    obtain ⟨v_20, ev_20, hf⟩ := ob hf
    refine g_get X I gfX1_87 (gR_in ev_20) dX1_stop_54 ?_
    obtain ⟨a_21, ea_21, hga_21⟩ := ob hf
    have hla_21 := hl
    have Ia_21 := I
    subst ea_21
    have hf := hga_21
    have hl := hla_21
    have I := Ia_21
    obtain ⟨σ_23, ev_22, hf⟩ := ob hf
    refine cm_I (σ' := σ_23) (rs := [.ref q_19a]) (rest := [.ref q_19a]) (As := [.ref a_21]) X I (mX13_init hX ev_22) lvX1_276 hdX1_276 ⟨Nat.le_trans (Nat.le_of_ble_eq_true rfl) hR.1, Nat.le_trans (Nat.le_of_ble_eq_true rfl) hR.2⟩ rfl hl.1 rfl (Nat.le_of_ble_eq_true rfl) rfl dX1_stop_57 (fun H locs cells slots I => ?_)
    refine lv_aload hx hb dX1_stop_60 (lv_at hl 3 rfl) ?_
    refine lv_aload hx hb dX1_stop_62 (lv_at hl 3 rfl) ?_
    obtain ⟨v_24, ev_24, hf⟩ := ob hf
    refine g_getN hX X I gfX1_203 (gR_in ev_24) dX1_stop_64 ?_
    obtain ⟨a_25, ea_25, hga_25⟩ := ob hf
    have hla_25 := hl
    have Ia_25 := I
    subst ea_25
    have hf := hga_25
    have hl := hla_25
    have I := Ia_25
    obtain ⟨u_26, eu_26, hf⟩ := ob hf
    obtain ⟨⟨v_27, σ_28⟩, ev_27, hf⟩ := ob hf
    refine cg_V (vw := (RX13, TX13, 17)) (ci := 11) (r := (some (.ref v_27))) (σ' := σ_28) (rs := [.ref v_27]) (rest := []) (As := [.ref x4, .ref a_25]) X I eu_26 rfl (mX13_begin hX ev_27) lvX1_279 hdX1_279 ⟨Nat.le_trans (Nat.le_of_ble_eq_true rfl) hR.1, Nat.le_trans (Nat.le_of_ble_eq_true rfl) hR.2⟩ rfl hl.1 rfl (Nat.le_of_ble_eq_true rfl) rfl dX1_stop_67 (fun H locs cells slots I => ?_)
    refine lv_astore (lv' := [(5, .ref v_27), (0, .ref x0), (2, .int x2), (3, .int x3), (4, .ref x4)]) hx hb dX1_stop_70 hl (by decide) rfl (fun ls hl => ?_)
    exact wX1_stop_72 hX hR X XH hS N N x2 x3 v_27 σ_28 _ _ _ _ _ I (lv_sub hl [2, 3, 0] rfl) hf
  · have hf := se_r hgv_15
    obtain ⟨uq_18, eq_18, hf⟩ := ob hf
    cases os hf
    refine cx_thr I (xr_S (σ' := σ_16) (rest := []) (As := [.int y0]) X I (mX1_requireExists hX hS ev_15) lvX1_129 hdX1_129 ⟨Nat.le_trans (Nat.le_of_ble_eq_true rfl) hR.1, Nat.le_trans (Nat.le_of_ble_eq_true rfl) hR.2⟩ rfl hl.1 rfl (Nat.le_of_ble_eq_true rfl) dX1_stop_46) (fun H locs cells slots I => ?_)
    exact x_out X XH rfl I eq_18
theorem wX1_stop_45 {E : EV} {l : Launch} {p : Program} {e : Env} {s : State} {m : MethodId} {args : Array Value} {below : List Frame} {meth : Method} {c : Code} {R : Room} {res : ((Int32 ⊕ Nat) × St)} (hX : XK E) (hR : 8 ≤ R.frames ∧ 130 ≤ R.locals) (X : MX E p s m args meth c cX1_stop 6 (some .int) RX1 "stop") (XH : MH c []) (hS : l.stackTraces = false) (N : Nat) : ∀ (x0 : Nat) (x2 : Int32) (x3 : Int32) (x4 : Nat) (σ : St) (H : Heap) (locs : List Loc) (cells slots : Nat) (ls : Array Slot), WI E R s σ H locs cells slots → lv_has ls 6 [(0, .ref x0), (2, .int x2), (3, .int x3), (4, .ref x4)] → fX1_stop_45 N x0 x2 x3 x4 σ = some res → W p l e R s m args below meth c H locs cells slots (vx_MQ below (QS E R.cells R.slots (sv (fun v => (some (.int v))) res.1) res.2) (XS E R.cells R.slots (sx res.1) res.2) args s R.cells R.slots (fr E)) (F0 m 45 ls []) := by
  intro x0 x2 x3 x4 σ H locs cells slots ls I hl hf
  obtain ⟨⟨hx, hb, hml, hown, hts⟩, -⟩ := id X
  unfold fX1_stop_45 at hf
  refine lv_iconst (v := 0) hx hb dX1_stop_45 (by decide) ?_
  exact wX1_stop_46 hX hR X XH hS N x0 x2 x3 x4 (0 : Int32) σ _ _ _ _ _ I (lv_sub hl [0, 1, 2, 3] rfl) hf
theorem wX1_stop_0 {E : EV} {l : Launch} {p : Program} {e : Env} {s : State} {m : MethodId} {args : Array Value} {below : List Frame} {meth : Method} {c : Code} {R : Room} {res : ((Int32 ⊕ Nat) × St)} (hX : XK E) (hR : 8 ≤ R.frames ∧ 130 ≤ R.locals) (X : MX E p s m args meth c cX1_stop 6 (some .int) RX1 "stop") (XH : MH c []) (hS : l.stackTraces = false) (N : Nat) : ∀ (x0 : Nat) (x1 : Int32) (x2 : Int32) (x3 : Int32) (σ : St) (H : Heap) (locs : List Loc) (cells slots : Nat) (ls : Array Slot), WI E R s σ H locs cells slots → lv_has ls 6 [(0, .ref x0), (1, .int x1), (2, .int x2), (3, .int x3)] → fX1_stop N σ x0 x1 x2 x3 = some res → W p l e R s m args below meth c H locs cells slots (vx_MQ below (QS E R.cells R.slots (sv (fun v => (some (.int v))) res.1) res.2) (XS E R.cells R.slots (sx res.1) res.2) args s R.cells R.slots (fr E)) (F0 m 0 ls []) := by
  intro x0 x1 x2 x3 σ H locs cells slots ls I hl hf
  obtain ⟨⟨hx, hb, hml, hown, hts⟩, -⟩ := id X
  unfold fX1_stop at hf
  refine lv_aload_n hx hb dX1_stop_0 rfl (lv_at hl 0 rfl) ?_
  refine lv_iload_n hx hb dX1_stop_1 rfl (lv_at hl 1 rfl) ?_
  obtain ⟨u_29, eu_29, hf⟩ := ob hf
  obtain ⟨⟨v_30, σ_31⟩, ev_30, hf⟩ := ob hf
  have hgv_30 := hf
  rcases v_30 with v_32 | q_33
  · have hf := se_l hgv_30
    refine cx_ret (r := (some (.ref v_32))) (rs := [.ref v_32]) I (xr_V (vw := (RX1, TX1, 7)) (ci := 0) (σ' := σ_31) (rest := []) (As := [.int x1]) X I eu_29 rfl (mX1_taxiAt hX hS ev_30) lvX1_238 hdX1_238 ⟨Nat.le_trans (Nat.le_of_ble_eq_true rfl) hR.1, Nat.le_trans (Nat.le_of_ble_eq_true rfl) hR.2⟩ rfl hl.1 rfl (Nat.le_of_ble_eq_true rfl) dX1_stop_2) rfl (fun H locs cells slots I => ?_)
    refine lv_astore (lv' := [(4, .ref v_32), (0, .ref x0), (1, .int x1), (2, .int x2), (3, .int x3)]) hx hb dX1_stop_5 hl (by decide) rfl (fun ls hl => ?_)
    refine lv_iload_n hx hb dX1_stop_7 rfl (lv_at hl 3 rfl) ?_
    refine lv_i2l hx hb dX1_stop_8 rfl ?_
    refine lv_lconst (v := 0) hx hb dX1_stop_9 (by decide) ?_
    refine lv_aload hx hb dX1_stop_10 (lv_at hl 0 rfl) ?_
    obtain ⟨v_34, ev_34, hf⟩ := ob hf
    refine g_getN hX X I gfX1_203 (gR_in ev_34) dX1_stop_12 ?_
    obtain ⟨a_35, ea_35, hga_35⟩ := ob hf
    have hla_35 := hl
    have Ia_35 := I
    subst ea_35
    have hf := hga_35
    have hl := hla_35
    have I := Ia_35
    obtain ⟨u_36, eu_36, hf⟩ := ob hf
    obtain ⟨v_37, ev_37, hf⟩ := ob hf
    refine cg_F (vw := (RJ2, TJ2, 3)) (ci := 21) (r := (some (.int v_37))) (σ' := σ_31) (rs := [.int v_37, .long (0 : Int64), .long (x2.toInt64)]) (rest := [.long (0 : Int64), .long (x2.toInt64)]) (As := []) hX X I eu_36 rfl (mJ2_size hX ev_37) lvX1_137_J2 hdX1_137_J2 ⟨Nat.le_trans (Nat.le_of_ble_eq_true rfl) hR.1, Nat.le_trans (Nat.le_of_ble_eq_true rfl) hR.2⟩ rfl hl.1 rfl (Nat.le_of_ble_eq_true rfl) rfl dX1_stop_15 (fun H locs cells slots I => ?_)
    refine lv_iconst (v := 1) hx hb dX1_stop_20 (by decide) ?_
    refine lv_isub hx hb dX1_stop_21 ?_
    refine lv_i2l hx hb dX1_stop_22 rfl ?_
    obtain ⟨v_39, ev_39, hf⟩ := ob hf
    refine cg_S (r := (some (.int v_39))) (σ' := σ_31) (rs := [.int v_39]) (rest := []) (As := [.long (x2.toInt64), .long (0 : Int64), .long ((v_37 - (1 : Int32)).toInt64)]) X I (mX1_inRange hX ev_39) lvX1_125 hdX1_125 ⟨Nat.le_trans (Nat.le_of_ble_eq_true rfl) hR.1, Nat.le_trans (Nat.le_of_ble_eq_true rfl) hR.2⟩ rfl hl.1 rfl (Nat.le_of_ble_eq_true rfl) rfl dX1_stop_23 (fun H locs cells slots I => ?_)
    refine lv_if_eq (tgt := 45) hx hb dX1_stop_26 (by decide) (fun c_26 => ?_) (fun c_26 => ?_)
    · have hf := ip c_26 hf
      exact wX1_stop_45 hX hR X XH hS N x0 x2 x3 v_32 σ_31 _ _ _ _ _ I (lv_sub hl [1, 3, 4, 0] rfl) hf
    · have hf := im c_26 hf
      refine lv_iload_n hx hb dX1_stop_29 rfl (lv_at hl 4 rfl) ?_
      refine lv_i2l hx hb dX1_stop_30 rfl ?_
      refine lv_lconst (v := 0) hx hb dX1_stop_31 (by decide) ?_
      refine lv_ldc2 (v := 5) hx hb hown (hts _ q1620) dX1_stop_32 ?_
      obtain ⟨v_41, ev_41, hf⟩ := ob hf
      refine cg_S (r := (some (.int v_41))) (σ' := σ_31) (rs := [.int v_41]) (rest := []) (As := [.long (x3.toInt64), .long (0 : Int64), .long (5 : Int64)]) X I (mX1_inRange hX ev_41) lvX1_125 hdX1_125 ⟨Nat.le_trans (Nat.le_of_ble_eq_true rfl) hR.1, Nat.le_trans (Nat.le_of_ble_eq_true rfl) hR.2⟩ rfl hl.1 rfl (Nat.le_of_ble_eq_true rfl) rfl dX1_stop_35 (fun H locs cells slots I => ?_)
      refine lv_if_eq (tgt := 45) hx hb dX1_stop_38 (by decide) (fun c_38 => ?_) (fun c_38 => ?_)
      · have hf := ip c_38 hf
        exact wX1_stop_45 hX hR X XH hS N x0 x2 x3 v_32 σ_31 _ _ _ _ _ I (lv_sub hl [1, 3, 4, 0] rfl) hf
      · have hf := im c_38 hf
        refine lv_iconst (v := 1) hx hb dX1_stop_41 (by decide) ?_
        refine lv_goto (tgt := 46) hx hb dX1_stop_42 (by decide) ?_
        exact wX1_stop_46 hX hR X XH hS N x0 x2 x3 v_32 (1 : Int32) σ_31 _ _ _ _ _ I (lv_sub hl [1, 3, 4, 0] rfl) hf
  · have hf := se_r hgv_30
    obtain ⟨uq_33, eq_33, hf⟩ := ob hf
    cases os hf
    refine cx_thr I (xr_V (vw := (RX1, TX1, 7)) (ci := 0) (σ' := σ_31) (rest := []) (As := [.int x1]) X I eu_29 rfl (mX1_taxiAt hX hS ev_30) lvX1_238 hdX1_238 ⟨Nat.le_trans (Nat.le_of_ble_eq_true rfl) hR.1, Nat.le_trans (Nat.le_of_ble_eq_true rfl) hR.2⟩ rfl hl.1 rfl (Nat.le_of_ble_eq_true rfl) dX1_stop_2) (fun H locs cells slots I => ?_)
    exact x_out X XH rfl I eq_33
theorem mX1_stop {E : EV} {l : Launch} {N : Nat} {σ : St} {x0 : Nat} {x1 : Int32} {x2 : Int32} {x3 : Int32} {res : ((Int32 ⊕ Nat) × St)} (hX : XK E) (hS : l.stackTraces = false) (hf : fX1_stop N σ x0 x1 x2 x3 = some res) : CX E l yX1_stop (ws_ yX1_stop cX1_stop 6 (some .int)) 8 130 [.ref x0, .int x1, .int x2, .int x3] σ (sv (fun v => (some (.int v))) res.1) (sx res.1) res.2 := by
  refine CX.of hX.1 (by decide) rfl rfl (Nat.le_of_ble_eq_true rfl) ?_
  intro p e s m below meth c X XH I ls hl
  exact wX1_stop_0 hX ⟨Nat.le_refl _, Nat.le_refl _⟩ X XH hS N _ _ _ _ _ _ _ _ _ _ I hl hf
/-! SharedTaxisLaw.stop(LSharedTaxis;III[J)I imp=True fuel=True kap=False rt=I thr=False -/
theorem lvX0_33 : GoodIn lw_all (wsV RX0 33 RX1 yX1_stop (ws_ yX1_stop cX1_stop 6 (some .int))) := lw_V q1628 q1629 q1630 q113 q1631
theorem hdX0_33 : yX1_stop.cls = RX1 ∧ yX1_stop.cls ≠ "java/lang/invoke/MethodHandle" ∧ yX1_stop.cls ≠ "java/lang/invoke/VarHandle" ∧ (parseMethodDescriptor yX1_stop.desc).map (fun d => d.parameters.length) = some 3 := by decide +kernel
def fX0_stop (N : Nat) (σ : St) (x0 : Nat) (x1 : Int32) (x2 : Int32) (x3 : Int32) (x4 : Nat) : Option (Int32 × St) := (isC σ x0 0).bind fun u_1 : Unit => (fX1_stop N σ x0 x1 x2 x3).bind fun (v_2, σ_3) => se v_2 (fun v_4 => (sJ σ_3 x4 (0 : Int32) (v_4.toInt64)).bind fun σ_6 : St => some ((0 : Int32), σ_6)) (fun q_5 => (clsX σ_3 q_5).bind fun c_7 : Nat => if c_7 = 34 then some ((1 : Int32), σ_3) else none)
theorem wX0_stop_0 {E : EV} {l : Launch} {p : Program} {e : Env} {s : State} {m : MethodId} {args : Array Value} {below : List Frame} {meth : Method} {c : Code} {R : Room} {res : (Int32 × St)} (hX : XK E) (hR : 9 ≤ R.frames ∧ 155 ≤ R.locals) (X : MX E p s m args meth c cX0_stop 6 (some .int) RX0 "stop") (XH : MH c [(0, 12, 15, 18)]) (hS : l.stackTraces = false) (N : Nat) : ∀ (x0 : Nat) (x1 : Int32) (x2 : Int32) (x3 : Int32) (x4 : Nat) (σ : St) (H : Heap) (locs : List Loc) (cells slots : Nat) (ls : Array Slot), WI E R s σ H locs cells slots → lv_has ls 6 [(0, .ref x0), (1, .int x1), (2, .int x2), (3, .int x3), (4, .ref x4)] → fX0_stop N σ x0 x1 x2 x3 x4 = some res → W p l e R s m args below meth c H locs cells slots (vx_MQ below (QS E R.cells R.slots (some (some (.int res.1))) res.2) (XS E R.cells R.slots none res.2) args s R.cells R.slots (fr E)) (F0 m 0 ls []) := by
  intro x0 x1 x2 x3 x4 σ H locs cells slots ls I hl hf
  obtain ⟨⟨hx, hb, hml, hown, hts⟩, -⟩ := id X
  unfold fX0_stop at hf
  refine lv_aload hx hb dX0_stop_0 (lv_at hl 4 rfl) ?_
  refine lv_iconst (v := 0) hx hb dX0_stop_2 (by decide) ?_
  refine lv_aload_n hx hb dX0_stop_3 rfl (lv_at hl 0 rfl) ?_
  refine lv_iload_n hx hb dX0_stop_4 rfl (lv_at hl 1 rfl) ?_
  refine lv_iload_n hx hb dX0_stop_5 rfl (lv_at hl 2 rfl) ?_
  refine lv_iload_n hx hb dX0_stop_6 rfl (lv_at hl 3 rfl) ?_
  obtain ⟨u_1, eu_1, hf⟩ := ob hf
  obtain ⟨⟨v_2, σ_3⟩, ev_2, hf⟩ := ob hf
  have hgv_2 := hf
  rcases v_2 with v_4 | q_5
  · have hf := se_l hgv_2
    refine cx_ret (r := (some (.int v_4))) (rs := [.int v_4, .int (0 : Int32), .ref x4]) I (xr_V (vw := (RX1, TX1, 7)) (ci := 0) (σ' := σ_3) (rest := [.int (0 : Int32), .ref x4]) (As := [.int x1, .int x2, .int x3]) X I eu_1 rfl (mX1_stop hX hS ev_2) lvX0_33 hdX0_33 ⟨Nat.le_trans (Nat.le_of_ble_eq_true rfl) hR.1, Nat.le_trans (Nat.le_of_ble_eq_true rfl) hR.2⟩ rfl hl.1 rfl (Nat.le_of_ble_eq_true rfl) dX0_stop_7) rfl (fun H locs cells slots I => ?_)
    refine lv_i2l hx hb dX0_stop_10 rfl ?_
    obtain ⟨σ_6, eσ_6, hf⟩ := ob hf
    refine g_last X I eσ_6 dX0_stop_11 (fun H locs I => ?_)
    refine lv_goto (tgt := 19) hx hb dX0_stop_12 (by decide) ?_
    refine lv_iconst (v := 0) hx hb dX0_stop_19 (by decide) ?_
    cases os hf
    exact x_ret (r_iret X I dX0_stop_20)
  · have hf := se_r hgv_2
    obtain ⟨c_7, ec_7, hf⟩ := ob hf
    refine cx_thr I (xr_V (vw := (RX1, TX1, 7)) (ci := 0) (σ' := σ_3) (rest := [.int (0 : Int32), .ref x4]) (As := [.int x1, .int x2, .int x3]) X I eu_1 rfl (mX1_stop hX hS ev_2) lvX0_33 hdX0_33 ⟨Nat.le_trans (Nat.le_of_ble_eq_true rfl) hR.1, Nat.le_trans (Nat.le_of_ble_eq_true rfl) hR.2⟩ rfl hl.1 rfl (Nat.le_of_ble_eq_true rfl) dX0_stop_7) (fun H locs cells slots I => ?_)
    by_cases cc_7_E22 : c_7 = 34
    · have hf := ip cc_7_E22 hf
      refine x_catch (vw := (RJ22, TJ22, 0)) hX X XH I (cc_7_E22 ▸ ec_7) rfl ((tableOf [(0, 12, 15, 18)]).take 0) _ _ rfl (fun z hz => nomatch hz) rfl (by decide) q1558 q417 ?_
      refine lv_astore (lv' := [(5, .ref q_5), (0, .ref x0), (1, .int x1), (2, .int x2), (3, .int x3), (4, .ref x4)]) hx hb dX0_stop_15 hl (by decide) rfl (fun ls hl => ?_)
      refine lv_iconst (v := 1) hx hb dX0_stop_17 (by decide) ?_
      cases os hf
      exact x_ret (r_iret X I dX0_stop_18)
    · have hf := im cc_7_E22 hf
      exact nomatch hf
theorem mX0_stop {E : EV} {l : Launch} {N : Nat} {σ : St} {x0 : Nat} {x1 : Int32} {x2 : Int32} {x3 : Int32} {x4 : Nat} {res : (Int32 × St)} (hX : XK E) (hS : l.stackTraces = false) (hf : fX0_stop N σ x0 x1 x2 x3 x4 = some res) : CX E l yX0_stop (wsW_ yX0_stop cX0_stop 6 (some .int) [(0, 12, 15, 18)]) 9 155 [.ref x0, .int x1, .int x2, .int x3, .ref x4] σ (some (some (.int res.1))) none res.2 := by
  refine CX.ofH hX.1 (by decide) rfl rfl (Nat.le_of_ble_eq_true rfl) ?_
  intro p e s m below meth c X XH I ls hl
  exact wX0_stop_0 hX ⟨Nat.le_refl _, Nat.le_refl _⟩ X XH hS N _ _ _ _ _ _ _ _ _ _ _ I hl hf
/-! SharedTaxis.rideAt(I)LSharedTaxis$Ride; imp=True fuel=False kap=False rt=N thr=True -/
def fX1_rideAt (σ : St) (x0 : Nat) (x1 : Int32) : Option ((Nat ⊕ Nat) × St) := (gR σ x0 [(0, 3)]).bind fun v_1 : Option Nat => (v_1).bind fun a_2 : Nat => (gR σ a_2 [(1, 6)]).bind fun v_3 : Option Nat => (v_3).bind fun a_4 : Nat => (isC σ a_4 21).bind fun u_5 : Unit => (fJ2_size σ a_4).bind fun v_6 : Int32 => (fX1_inRange σ (x1.toInt64) (0 : Int64) ((v_6 - (1 : Int32)).toInt64)).bind fun v_8 : Int32 => (fX1_requireExists σ v_8).bind fun (v_10, σ_11) => se v_10 (fun v_12 => (gR σ_11 x0 [(0, 3)]).bind fun v_14 : Option Nat => (v_14).bind fun a_15 : Nat => (gR σ_11 a_15 [(1, 6)]).bind fun v_16 : Option Nat => (v_16).bind fun a_17 : Nat => (isC σ_11 a_17 21).bind fun u_18 : Unit => (fJ2_get σ_11 a_17 x1).bind fun v_19 : Option Nat => (v_19).bind fun a_21 : Nat => (isC σ_11 a_21 14).bind fun u_22 : Unit => some (.inl (a_21), σ_11)) (fun q_13 => (isX σ_11 q_13).bind fun uq_13 : Unit => some (.inr q_13, σ_11))
theorem wX1_rideAt_0 {E : EV} {l : Launch} {p : Program} {e : Env} {s : State} {m : MethodId} {args : Array Value} {below : List Frame} {meth : Method} {c : Code} {R : Room} {res : ((Nat ⊕ Nat) × St)} (hX : XK E) (hR : 7 ≤ R.frames ∧ 109 ≤ R.locals) (X : MX E p s m args meth c cX1_rideAt 2 (some (.object "SharedTaxis$Ride")) RX1 "rideAt") (XH : MH c []) (hS : l.stackTraces = false) : ∀ (x0 : Nat) (x1 : Int32) (σ : St) (H : Heap) (locs : List Loc) (cells slots : Nat) (ls : Array Slot), WI E R s σ H locs cells slots → lv_has ls 2 [(0, .ref x0), (1, .int x1)] → fX1_rideAt σ x0 x1 = some res → W p l e R s m args below meth c H locs cells slots (vx_MQ below (QS E R.cells R.slots (sv (fun v => (some (.ref v))) res.1) res.2) (XS E R.cells R.slots (sx res.1) res.2) args s R.cells R.slots (fr E)) (F0 m 0 ls []) := by
  intro x0 x1 σ H locs cells slots ls I hl hf
  obtain ⟨⟨hx, hb, hml, hown, hts⟩, -⟩ := id X
  unfold fX1_rideAt at hf
  refine lv_iload_n hx hb dX1_rideAt_0 rfl (lv_at hl 1 rfl) ?_
  refine lv_i2l hx hb dX1_rideAt_1 rfl ?_
  refine lv_lconst (v := 0) hx hb dX1_rideAt_2 (by decide) ?_
  refine lv_aload_n hx hb dX1_rideAt_3 rfl (lv_at hl 0 rfl) ?_
  obtain ⟨v_1, ev_1, hf⟩ := ob hf
  refine g_get X I gfX1_87 (gR_in ev_1) dX1_rideAt_4 ?_
  obtain ⟨a_2, ea_2, hga_2⟩ := ob hf
  have hla_2 := hl
  have Ia_2 := I
  subst ea_2
  have hf := hga_2
  have hl := hla_2
  have I := Ia_2
  obtain ⟨v_3, ev_3, hf⟩ := ob hf
  refine g_getN hX X I gfX1_146 (gR_in ev_3) dX1_rideAt_7 ?_
  obtain ⟨a_4, ea_4, hga_4⟩ := ob hf
  have hla_4 := hl
  have Ia_4 := I
  subst ea_4
  have hf := hga_4
  have hl := hla_4
  have I := Ia_4
  obtain ⟨u_5, eu_5, hf⟩ := ob hf
  obtain ⟨v_6, ev_6, hf⟩ := ob hf
  refine cg_F (vw := (RJ2, TJ2, 3)) (ci := 21) (r := (some (.int v_6))) (σ' := σ) (rs := [.int v_6, .long (0 : Int64), .long (x1.toInt64)]) (rest := [.long (0 : Int64), .long (x1.toInt64)]) (As := []) hX X I eu_5 rfl (mJ2_size hX ev_6) lvX1_137_J2 hdX1_137_J2 ⟨Nat.le_trans (Nat.le_of_ble_eq_true rfl) hR.1, Nat.le_trans (Nat.le_of_ble_eq_true rfl) hR.2⟩ rfl hl.1 rfl (Nat.le_of_ble_eq_true rfl) rfl dX1_rideAt_10 (fun H locs cells slots I => ?_)
  refine lv_iconst (v := 1) hx hb dX1_rideAt_15 (by decide) ?_
  refine lv_isub hx hb dX1_rideAt_16 ?_
  refine lv_i2l hx hb dX1_rideAt_17 rfl ?_
  obtain ⟨v_8, ev_8, hf⟩ := ob hf
  refine cg_S (r := (some (.int v_8))) (σ' := σ) (rs := [.int v_8]) (rest := []) (As := [.long (x1.toInt64), .long (0 : Int64), .long ((v_6 - (1 : Int32)).toInt64)]) X I (mX1_inRange hX ev_8) lvX1_125 hdX1_125 ⟨Nat.le_trans (Nat.le_of_ble_eq_true rfl) hR.1, Nat.le_trans (Nat.le_of_ble_eq_true rfl) hR.2⟩ rfl hl.1 rfl (Nat.le_of_ble_eq_true rfl) rfl dX1_rideAt_18 (fun H locs cells slots I => ?_)
  obtain ⟨⟨v_10, σ_11⟩, ev_10, hf⟩ := ob hf
  have hgv_10 := hf
  rcases v_10 with v_12 | q_13
  · have hf := se_l hgv_10
    refine cx_ret (r := none) (rs := []) I (xr_S (σ' := σ_11) (rest := []) (As := [.int v_8]) X I (mX1_requireExists hX hS ev_10) lvX1_129 hdX1_129 ⟨Nat.le_trans (Nat.le_of_ble_eq_true rfl) hR.1, Nat.le_trans (Nat.le_of_ble_eq_true rfl) hR.2⟩ rfl hl.1 rfl (Nat.le_of_ble_eq_true rfl) dX1_rideAt_21) rfl (fun H locs cells slots I => ?_)
    refine lv_aload_n hx hb dX1_rideAt_24 rfl (lv_at hl 0 rfl) ?_
    obtain ⟨v_14, ev_14, hf⟩ := ob hf
    refine g_get X I gfX1_87 (gR_in ev_14) dX1_rideAt_25 ?_
    obtain ⟨a_15, ea_15, hga_15⟩ := ob hf
    have hla_15 := hl
    have Ia_15 := I
    subst ea_15
    have hf := hga_15
    have hl := hla_15
    have I := Ia_15
    obtain ⟨v_16, ev_16, hf⟩ := ob hf
    refine g_getN hX X I gfX1_146 (gR_in ev_16) dX1_rideAt_28 ?_
    refine lv_iload_n hx hb dX1_rideAt_31 rfl (lv_at hl 1 rfl) ?_
    obtain ⟨a_17, ea_17, hga_17⟩ := ob hf
    have hla_17 := hl
    have Ia_17 := I
    subst ea_17
    have hf := hga_17
    have hl := hla_17
    have I := Ia_17
    obtain ⟨u_18, eu_18, hf⟩ := ob hf
    obtain ⟨v_19, ev_19, hf⟩ := ob hf
    refine cg_F (vw := (RJ2, TJ2, 3)) (ci := 21) (r := (some (va_rf v_19))) (σ' := σ_11) (rs := [va_rf v_19]) (rest := []) (As := [.int x1]) hX X I eu_18 rfl (mJ2_get hX ev_19) lvX1_140_J2 hdX1_140_J2 ⟨Nat.le_trans (Nat.le_of_ble_eq_true rfl) hR.1, Nat.le_trans (Nat.le_of_ble_eq_true rfl) hR.2⟩ rfl hl.1 rfl (Nat.le_of_ble_eq_true rfl) rfl dX1_rideAt_32 (fun H locs cells slots I => ?_)
    obtain ⟨a_21, ea_21, hga_21⟩ := ob hf
    have hla_21 := hl
    have Ia_21 := I
    subst ea_21
    have hf := hga_21
    have hl := hla_21
    have I := Ia_21
    obtain ⟨u_22, eu_22, hf⟩ := ob hf
    refine g_cast (vw := (RX16, TX16, 15)) X I rfl q800 eu_22 dX1_rideAt_37 ?_
    cases os hf
    exact x_ret (r_aret X I (Or.inl ⟨_, rfl⟩) (Or.inr ⟨_, rfl⟩) dX1_rideAt_40)
  · have hf := se_r hgv_10
    obtain ⟨uq_13, eq_13, hf⟩ := ob hf
    cases os hf
    refine cx_thr I (xr_S (σ' := σ_11) (rest := []) (As := [.int v_8]) X I (mX1_requireExists hX hS ev_10) lvX1_129 hdX1_129 ⟨Nat.le_trans (Nat.le_of_ble_eq_true rfl) hR.1, Nat.le_trans (Nat.le_of_ble_eq_true rfl) hR.2⟩ rfl hl.1 rfl (Nat.le_of_ble_eq_true rfl) dX1_rideAt_21) (fun H locs cells slots I => ?_)
    exact x_out X XH rfl I eq_13
theorem mX1_rideAt {E : EV} {l : Launch} {σ : St} {x0 : Nat} {x1 : Int32} {res : ((Nat ⊕ Nat) × St)} (hX : XK E) (hS : l.stackTraces = false) (hf : fX1_rideAt σ x0 x1 = some res) : CX E l yX1_rideAt (ws_ yX1_rideAt cX1_rideAt 2 (some (.object "SharedTaxis$Ride"))) 7 109 [.ref x0, .int x1] σ (sv (fun v => (some (.ref v))) res.1) (sx res.1) res.2 := by
  refine CX.of hX.1 (by decide) rfl rfl (Nat.le_of_ble_eq_true rfl) ?_
  intro p e s m below meth c X XH I ls hl
  exact wX1_rideAt_0 hX ⟨Nat.le_refl _, Nat.le_refl _⟩ X XH hS _ _ _ _ _ _ _ _ I hl hf
/-! SharedTaxis$Ride.most()I imp=False fuel=False kap=False rt=I thr=False -/
theorem gfX16_42 : ∀ q ∈ ([(14, 7)] : List (Nat × Nat)), GF RX16 42 q := List.forall_mem_cons.mpr ⟨⟨RX16, TX16, 15, _, rfl, in_X16, by decide, q1127, Or.inl rfl⟩, fun _ h => by cases h⟩
theorem gfX16_39 : ∀ q ∈ ([(14, 6)] : List (Nat × Nat)), GF RX16 39 q := List.forall_mem_cons.mpr ⟨⟨RX16, TX16, 15, _, rfl, in_X16, by decide, q1125, Or.inl rfl⟩, fun _ h => by cases h⟩
def fX16_most (σ : St) (x0 : Nat) : Option Int32 := (gI σ x0 [(14, 7)]).bind fun v_1 : Int32 => if v_1 = (-1 : Int32) then some (-1 : Int32) else (gI σ x0 [(14, 7)]).bind fun v_2 : Int32 => (gI σ x0 [(14, 6)]).bind fun v_3 : Int32 => some ((v_2 * ((100 : Int32) + v_3)) / (100 : Int32))
theorem wX16_most_0 {E : EV} {l : Launch} {p : Program} {e : Env} {s : State} {m : MethodId} {args : Array Value} {below : List Frame} {meth : Method} {c : Code} {R : Room} {σ : St} {res : Int32} (hX : XK E) (hR : 0 ≤ R.frames ∧ 0 ≤ R.locals) (X : MX E p s m args meth c cX16_most 1 (some .int) RX16 "most") : ∀ (x0 : Nat) (H : Heap) (locs : List Loc) (cells slots : Nat) (ls : Array Slot), WI E R s σ H locs cells slots → lv_has ls 1 [(0, .ref x0)] → fX16_most σ x0 = some res → W p l e R s m args below meth c H locs cells slots (MQ below (Qd E R.cells R.slots (some (.int res)) σ) args s R.cells R.slots (fr E)) (F0 m 0 ls []) := by
  intro x0 H locs cells slots ls I hl hf
  obtain ⟨⟨hx, hb, hml, hown, hts⟩, -⟩ := id X
  unfold fX16_most at hf
  refine lv_aload_n hx hb dX16_most_0 rfl (lv_at hl 0 rfl) ?_
  obtain ⟨v_1, ev_1, hf⟩ := ob hf
  refine g_get X I gfX16_42 (gI_in ev_1) dX16_most_1 ?_
  refine lv_iconst (v := (-1)) hx hb dX16_most_4 (by decide) ?_
  refine lv_icmp_ne (tgt := 12) hx hb dX16_most_5 (by decide) (fun c_5 => ?_) (fun c_5 => ?_)
  · have hf := im c_5 hf
    refine lv_aload_n hx hb dX16_most_12 rfl (lv_at hl 0 rfl) ?_
    obtain ⟨v_2, ev_2, hf⟩ := ob hf
    refine g_get X I gfX16_42 (gI_in ev_2) dX16_most_13 ?_
    refine lv_bipush (v := 100) hx hb dX16_most_16 (by decide) ?_
    refine lv_aload_n hx hb dX16_most_18 rfl (lv_at hl 0 rfl) ?_
    obtain ⟨v_3, ev_3, hf⟩ := ob hf
    refine g_get X I gfX16_39 (gI_in ev_3) dX16_most_19 ?_
    refine lv_iadd hx hb dX16_most_22 ?_
    refine lv_imul hx hb dX16_most_23 ?_
    refine lv_bipush (v := 100) hx hb dX16_most_24 (by decide) ?_
    refine lv_idiv hx hb dX16_most_26 (by decide) ?_
    cases os hf
    exact r_iret X I dX16_most_27
  · have hf := ip c_5 hf
    refine lv_iconst (v := (-1)) hx hb dX16_most_8 (by decide) ?_
    refine lv_goto (tgt := 27) hx hb dX16_most_9 (by decide) ?_
    cases os hf
    exact r_iret X I dX16_most_27
theorem mX16_most {E : EV} {l : Launch} {σ : St} {x0 : Nat} {res : Int32} (hX : XK E) (hf : fX16_most σ x0 = some res) : CM E l yX16_most (ws_ yX16_most cX16_most 1 (some .int)) 0 0 [.ref x0] σ (some (.int res)) σ := by
  refine CM.of hX.1 (by decide) rfl rfl (Nat.le_of_ble_eq_true rfl) ?_
  intro p e s m below meth c X I ls hl
  exact wX16_most_0 hX ⟨Nat.le_refl _, Nat.le_refl _⟩ X _ _ _ _ _ _ I hl hf
/-! SharedTaxis.ride(II)I imp=True fuel=False kap=False rt=I thr=True -/
theorem lvX1_309 : GoodIn lw_all (wsV RX1 309 RX1 yX1_rideAt (ws_ yX1_rideAt cX1_rideAt 2 (some (.object "SharedTaxis$Ride")))) := lw_V q1738 q1740 qs20 q113 q1741
theorem hdX1_309 : yX1_rideAt.cls = RX1 ∧ yX1_rideAt.cls ≠ "java/lang/invoke/MethodHandle" ∧ yX1_rideAt.cls ≠ "java/lang/invoke/VarHandle" ∧ (parseMethodDescriptor yX1_rideAt.desc).map (fun d => d.parameters.length) = some 1 := by decide +kernel
theorem gfX1_313 : ∀ q ∈ ([(14, 8)] : List (Nat × Nat)), GN RX1 313 q := List.forall_mem_cons.mpr ⟨⟨RX16, TX16, 15, _, rfl, in_X16, by decide, q1132⟩, fun _ h => by cases h⟩
theorem gfX1_315 : ∀ q ∈ ([(14, 1)] : List (Nat × Nat)), GN RX1 315 q := List.forall_mem_cons.mpr ⟨⟨RX16, TX16, 15, _, rfl, in_X16, by decide, q1110⟩, fun _ h => by cases h⟩
theorem gfX1_317 : ∀ q ∈ ([(14, 2)] : List (Nat × Nat)), GN RX1 317 q := List.forall_mem_cons.mpr ⟨⟨RX16, TX16, 15, _, rfl, in_X16, by decide, q1114⟩, fun _ h => by cases h⟩
theorem gfX1_319 : ∀ q ∈ ([(14, 3)] : List (Nat × Nat)), GN RX1 319 q := List.forall_mem_cons.mpr ⟨⟨RX16, TX16, 15, _, rfl, in_X16, by decide, q1118⟩, fun _ h => by cases h⟩
theorem gfX1_321 : ∀ q ∈ ([(14, 4)] : List (Nat × Nat)), GN RX1 321 q := List.forall_mem_cons.mpr ⟨⟨RX16, TX16, 15, _, rfl, in_X16, by decide, q1121⟩, fun _ h => by cases h⟩
theorem gfX1_323 : ∀ q ∈ ([(14, 5)] : List (Nat × Nat)), GN RX1 323 q := List.forall_mem_cons.mpr ⟨⟨RX16, TX16, 15, _, rfl, in_X16, by decide, q1124⟩, fun _ h => by cases h⟩
theorem gfX1_326 : ∀ q ∈ ([(14, 6)] : List (Nat × Nat)), GN RX1 326 q := List.forall_mem_cons.mpr ⟨⟨RX16, TX16, 15, _, rfl, in_X16, by decide, q1126⟩, fun _ h => by cases h⟩
theorem gfX1_328 : ∀ q ∈ ([(14, 7)] : List (Nat × Nat)), GN RX1 328 q := List.forall_mem_cons.mpr ⟨⟨RX16, TX16, 15, _, rfl, in_X16, by decide, q1128⟩, fun _ h => by cases h⟩
theorem lvX1_331 : GoodIn lw_all (wsV RX1 331 RX16 yX16_most (ws_ yX16_most cX16_most 1 (some .int))) := lw_V q1742 q1743 q1744 q153 q1745
theorem hdX1_331 : yX16_most.cls = RX16 ∧ yX16_most.cls ≠ "java/lang/invoke/MethodHandle" ∧ yX16_most.cls ≠ "java/lang/invoke/VarHandle" ∧ (parseMethodDescriptor yX16_most.desc).map (fun d => d.parameters.length) = some 0 := by decide +kernel
theorem gfX1_334 : ∀ q ∈ ([(14, 9)] : List (Nat × Nat)), GN RX1 334 q := List.forall_mem_cons.mpr ⟨⟨RX16, TX16, 15, _, rfl, in_X16, by decide, q1134⟩, fun _ h => by cases h⟩
theorem gfX1_336 : ∀ q ∈ ([(14, 10)] : List (Nat × Nat)), GN RX1 336 q := List.forall_mem_cons.mpr ⟨⟨RX16, TX16, 15, _, rfl, in_X16, by decide, q1138⟩, fun _ h => by cases h⟩
theorem gfX1_339 : ∀ q ∈ ([(14, 11)] : List (Nat × Nat)), GN RX1 339 q := List.forall_mem_cons.mpr ⟨⟨RX16, TX16, 15, _, rfl, in_X16, by decide, q1141⟩, fun _ h => by cases h⟩
theorem gfX1_342 : ∀ q ∈ ([(14, 12)] : List (Nat × Nat)), GN RX1 342 q := List.forall_mem_cons.mpr ⟨⟨RX16, TX16, 15, _, rfl, in_X16, by decide, q1144⟩, fun _ h => by cases h⟩
theorem gfX1_345 : ∀ q ∈ ([(14, 13)] : List (Nat × Nat)), GN RX1 345 q := List.forall_mem_cons.mpr ⟨⟨RX16, TX16, 15, _, rfl, in_X16, by decide, q1148⟩, fun _ h => by cases h⟩
def fX1_ride (σ : St) (x0 : Nat) (x1 : Int32) (x2 : Int32) : Option ((Int32 ⊕ Nat) × St) := (isC σ x0 0).bind fun u_1 : Unit => (fX1_rideAt σ x0 x1).bind fun (v_2, σ_3) => se v_2 (fun v_4 => if x2 = 0 then (gI σ_3 v_4 [(14, 8)]).bind fun v_6 : Int32 => some (.inl v_6, σ_3) else if x2 = 1 then (gI σ_3 v_4 [(14, 1)]).bind fun v_7 : Int32 => some (.inl v_7, σ_3) else if x2 = 2 then (gI σ_3 v_4 [(14, 2)]).bind fun v_8 : Int32 => some (.inl v_8, σ_3) else if x2 = 3 then (gI σ_3 v_4 [(14, 3)]).bind fun v_9 : Int32 => some (.inl v_9, σ_3) else if x2 = 4 then (gI σ_3 v_4 [(14, 4)]).bind fun v_10 : Int32 => some (.inl v_10, σ_3) else if x2 = 5 then (gI σ_3 v_4 [(14, 5)]).bind fun v_11 : Int32 => some (.inl v_11, σ_3) else if x2 = 6 then (gI σ_3 v_4 [(14, 6)]).bind fun v_12 : Int32 => some (.inl v_12, σ_3) else if x2 = 7 then (gI σ_3 v_4 [(14, 7)]).bind fun v_13 : Int32 => some (.inl v_13, σ_3) else if x2 = 8 then (isC σ_3 v_4 14).bind fun u_14 : Unit => (fX16_most σ_3 v_4).bind fun v_15 : Int32 => some (.inl v_15, σ_3) else if x2 = 9 then (gI σ_3 v_4 [(14, 9)]).bind fun v_17 : Int32 => some (.inl v_17, σ_3) else if x2 = 10 then (gI σ_3 v_4 [(14, 10)]).bind fun v_18 : Int32 => some (.inl v_18, σ_3) else if x2 = 11 then (gI σ_3 v_4 [(14, 11)]).bind fun v_19 : Int32 => some (.inl v_19, σ_3) else if x2 = 12 then (gI σ_3 v_4 [(14, 12)]).bind fun v_20 : Int32 => some (.inl v_20, σ_3) else if x2 = 13 then (gI σ_3 v_4 [(14, 13)]).bind fun v_21 : Int32 => if v_21 = 0 then some (.inl (0 : Int32), σ_3) else some (.inl (1 : Int32), σ_3) else (nH σ_3 6 (.inr (34, []))).bind fun (q_22a, q_22s) => (isX q_22s q_22a).bind fun u_23 : Unit => some (.inr q_22a, q_22s)) (fun q_5 => (isX σ_3 q_5).bind fun uq_5 : Unit => some (.inr q_5, σ_3))
theorem wX1_ride_0 {E : EV} {l : Launch} {p : Program} {e : Env} {s : State} {m : MethodId} {args : Array Value} {below : List Frame} {meth : Method} {c : Code} {R : Room} {res : ((Int32 ⊕ Nat) × St)} (hX : XK E) (hR : 8 ≤ R.frames ∧ 130 ≤ R.locals) (X : MX E p s m args meth c cX1_ride 4 (some .int) RX1 "ride") (XH : MH c []) (hS : l.stackTraces = false) : ∀ (x0 : Nat) (x1 : Int32) (x2 : Int32) (σ : St) (H : Heap) (locs : List Loc) (cells slots : Nat) (ls : Array Slot), WI E R s σ H locs cells slots → lv_has ls 4 [(0, .ref x0), (1, .int x1), (2, .int x2)] → fX1_ride σ x0 x1 x2 = some res → W p l e R s m args below meth c H locs cells slots (vx_MQ below (QS E R.cells R.slots (sv (fun v => (some (.int v))) res.1) res.2) (XS E R.cells R.slots (sx res.1) res.2) args s R.cells R.slots (fr E)) (F0 m 0 ls []) := by
  intro x0 x1 x2 σ H locs cells slots ls I hl hf
  obtain ⟨⟨hx, hb, hml, hown, hts⟩, -⟩ := id X
  unfold fX1_ride at hf
  refine lv_aload_n hx hb dX1_ride_0 rfl (lv_at hl 0 rfl) ?_
  refine lv_iload_n hx hb dX1_ride_1 rfl (lv_at hl 1 rfl) ?_
  obtain ⟨u_1, eu_1, hf⟩ := ob hf
  obtain ⟨⟨v_2, σ_3⟩, ev_2, hf⟩ := ob hf
  have hgv_2 := hf
  rcases v_2 with v_4 | q_5
  · have hf := se_l hgv_2
    refine cx_ret (r := (some (.ref v_4))) (rs := [.ref v_4]) I (xr_V (vw := (RX1, TX1, 7)) (ci := 0) (σ' := σ_3) (rest := []) (As := [.int x1]) X I eu_1 rfl (mX1_rideAt hX hS ev_2) lvX1_309 hdX1_309 ⟨Nat.le_trans (Nat.le_of_ble_eq_true rfl) hR.1, Nat.le_trans (Nat.le_of_ble_eq_true rfl) hR.2⟩ rfl hl.1 rfl (Nat.le_of_ble_eq_true rfl) dX1_ride_2) rfl (fun H locs cells slots I => ?_)
    refine lv_astore_n (lv' := [(3, .ref v_4), (0, .ref x0), (1, .int x1), (2, .int x2)]) hx hb dX1_ride_5 rfl hl (by decide) rfl (fun ls hl => ?_)
    refine lv_iload_n hx hb dX1_ride_6 rfl (lv_at hl 3 rfl) ?_
    by_cases c_7_0 : x2 = 0
    · have hf := ip c_7_0 hf
      refine lv_tableIn (off := 69) (tgt := 76) hx hb dX1_ride_7 (by rw [c_7_0]; decide) (by rw [c_7_0]; decide) (by rw [c_7_0]; rfl) (by decide) ?_
      refine lv_aload_n hx hb dX1_ride_76 rfl (lv_at hl 0 rfl) ?_
      obtain ⟨v_6, ev_6, hf⟩ := ob hf
      refine g_getN hX X I gfX1_313 (gI_in ev_6) dX1_ride_77 ?_
      refine lv_goto (tgt := 190) hx hb dX1_ride_80 (by decide) ?_
      cases os hf
      exact x_ret (r_iret X I dX1_ride_190)
    · have hf := im c_7_0 hf
      by_cases c_7_1 : x2 = 1
      · have hf := ip c_7_1 hf
        refine lv_tableIn (off := 76) (tgt := 83) hx hb dX1_ride_7 (by rw [c_7_1]; decide) (by rw [c_7_1]; decide) (by rw [c_7_1]; rfl) (by decide) ?_
        refine lv_aload_n hx hb dX1_ride_83 rfl (lv_at hl 0 rfl) ?_
        obtain ⟨v_7, ev_7, hf⟩ := ob hf
        refine g_getN hX X I gfX1_315 (gI_in ev_7) dX1_ride_84 ?_
        refine lv_goto (tgt := 190) hx hb dX1_ride_87 (by decide) ?_
        cases os hf
        exact x_ret (r_iret X I dX1_ride_190)
      · have hf := im c_7_1 hf
        by_cases c_7_2 : x2 = 2
        · have hf := ip c_7_2 hf
          refine lv_tableIn (off := 83) (tgt := 90) hx hb dX1_ride_7 (by rw [c_7_2]; decide) (by rw [c_7_2]; decide) (by rw [c_7_2]; rfl) (by decide) ?_
          refine lv_aload_n hx hb dX1_ride_90 rfl (lv_at hl 0 rfl) ?_
          obtain ⟨v_8, ev_8, hf⟩ := ob hf
          refine g_getN hX X I gfX1_317 (gI_in ev_8) dX1_ride_91 ?_
          refine lv_goto (tgt := 190) hx hb dX1_ride_94 (by decide) ?_
          cases os hf
          exact x_ret (r_iret X I dX1_ride_190)
        · have hf := im c_7_2 hf
          by_cases c_7_3 : x2 = 3
          · have hf := ip c_7_3 hf
            refine lv_tableIn (off := 90) (tgt := 97) hx hb dX1_ride_7 (by rw [c_7_3]; decide) (by rw [c_7_3]; decide) (by rw [c_7_3]; rfl) (by decide) ?_
            refine lv_aload_n hx hb dX1_ride_97 rfl (lv_at hl 0 rfl) ?_
            obtain ⟨v_9, ev_9, hf⟩ := ob hf
            refine g_getN hX X I gfX1_319 (gI_in ev_9) dX1_ride_98 ?_
            refine lv_goto (tgt := 190) hx hb dX1_ride_101 (by decide) ?_
            cases os hf
            exact x_ret (r_iret X I dX1_ride_190)
          · have hf := im c_7_3 hf
            by_cases c_7_4 : x2 = 4
            · have hf := ip c_7_4 hf
              refine lv_tableIn (off := 97) (tgt := 104) hx hb dX1_ride_7 (by rw [c_7_4]; decide) (by rw [c_7_4]; decide) (by rw [c_7_4]; rfl) (by decide) ?_
              refine lv_aload_n hx hb dX1_ride_104 rfl (lv_at hl 0 rfl) ?_
              obtain ⟨v_10, ev_10, hf⟩ := ob hf
              refine g_getN hX X I gfX1_321 (gI_in ev_10) dX1_ride_105 ?_
              refine lv_goto (tgt := 190) hx hb dX1_ride_108 (by decide) ?_
              cases os hf
              exact x_ret (r_iret X I dX1_ride_190)
            · have hf := im c_7_4 hf
              by_cases c_7_5 : x2 = 5
              · have hf := ip c_7_5 hf
                refine lv_tableIn (off := 104) (tgt := 111) hx hb dX1_ride_7 (by rw [c_7_5]; decide) (by rw [c_7_5]; decide) (by rw [c_7_5]; rfl) (by decide) ?_
                refine lv_aload_n hx hb dX1_ride_111 rfl (lv_at hl 0 rfl) ?_
                obtain ⟨v_11, ev_11, hf⟩ := ob hf
                refine g_getN hX X I gfX1_323 (gI_in ev_11) dX1_ride_112 ?_
                refine lv_goto (tgt := 190) hx hb dX1_ride_115 (by decide) ?_
                cases os hf
                exact x_ret (r_iret X I dX1_ride_190)
              · have hf := im c_7_5 hf
                by_cases c_7_6 : x2 = 6
                · have hf := ip c_7_6 hf
                  refine lv_tableIn (off := 111) (tgt := 118) hx hb dX1_ride_7 (by rw [c_7_6]; decide) (by rw [c_7_6]; decide) (by rw [c_7_6]; rfl) (by decide) ?_
                  refine lv_aload_n hx hb dX1_ride_118 rfl (lv_at hl 0 rfl) ?_
                  obtain ⟨v_12, ev_12, hf⟩ := ob hf
                  refine g_getN hX X I gfX1_326 (gI_in ev_12) dX1_ride_119 ?_
                  refine lv_goto (tgt := 190) hx hb dX1_ride_122 (by decide) ?_
                  cases os hf
                  exact x_ret (r_iret X I dX1_ride_190)
                · have hf := im c_7_6 hf
                  by_cases c_7_7 : x2 = 7
                  · have hf := ip c_7_7 hf
                    refine lv_tableIn (off := 118) (tgt := 125) hx hb dX1_ride_7 (by rw [c_7_7]; decide) (by rw [c_7_7]; decide) (by rw [c_7_7]; rfl) (by decide) ?_
                    refine lv_aload_n hx hb dX1_ride_125 rfl (lv_at hl 0 rfl) ?_
                    obtain ⟨v_13, ev_13, hf⟩ := ob hf
                    refine g_getN hX X I gfX1_328 (gI_in ev_13) dX1_ride_126 ?_
                    refine lv_goto (tgt := 190) hx hb dX1_ride_129 (by decide) ?_
                    cases os hf
                    exact x_ret (r_iret X I dX1_ride_190)
                  · have hf := im c_7_7 hf
                    by_cases c_7_8 : x2 = 8
                    · have hf := ip c_7_8 hf
                      refine lv_tableIn (off := 125) (tgt := 132) hx hb dX1_ride_7 (by rw [c_7_8]; decide) (by rw [c_7_8]; decide) (by rw [c_7_8]; rfl) (by decide) ?_
                      refine lv_aload_n hx hb dX1_ride_132 rfl (lv_at hl 0 rfl) ?_
                      obtain ⟨u_14, eu_14, hf⟩ := ob hf
                      obtain ⟨v_15, ev_15, hf⟩ := ob hf
                      refine cg_V (vw := (RX16, TX16, 15)) (ci := 14) (r := (some (.int v_15))) (σ' := σ_3) (rs := [.int v_15]) (rest := []) (As := []) X I eu_14 rfl (mX16_most hX ev_15) lvX1_331 hdX1_331 ⟨Nat.le_trans (Nat.le_of_ble_eq_true rfl) hR.1, Nat.le_trans (Nat.le_of_ble_eq_true rfl) hR.2⟩ rfl hl.1 rfl (Nat.le_of_ble_eq_true rfl) rfl dX1_ride_133 (fun H locs cells slots I => ?_)
                      refine lv_goto (tgt := 190) hx hb dX1_ride_136 (by decide) ?_
                      cases os hf
                      exact x_ret (r_iret X I dX1_ride_190)
                    · have hf := im c_7_8 hf
                      by_cases c_7_9 : x2 = 9
                      · have hf := ip c_7_9 hf
                        refine lv_tableIn (off := 132) (tgt := 139) hx hb dX1_ride_7 (by rw [c_7_9]; decide) (by rw [c_7_9]; decide) (by rw [c_7_9]; rfl) (by decide) ?_
                        refine lv_aload_n hx hb dX1_ride_139 rfl (lv_at hl 0 rfl) ?_
                        obtain ⟨v_17, ev_17, hf⟩ := ob hf
                        refine g_getN hX X I gfX1_334 (gI_in ev_17) dX1_ride_140 ?_
                        refine lv_goto (tgt := 190) hx hb dX1_ride_143 (by decide) ?_
                        cases os hf
                        exact x_ret (r_iret X I dX1_ride_190)
                      · have hf := im c_7_9 hf
                        by_cases c_7_10 : x2 = 10
                        · have hf := ip c_7_10 hf
                          refine lv_tableIn (off := 139) (tgt := 146) hx hb dX1_ride_7 (by rw [c_7_10]; decide) (by rw [c_7_10]; decide) (by rw [c_7_10]; rfl) (by decide) ?_
                          refine lv_aload_n hx hb dX1_ride_146 rfl (lv_at hl 0 rfl) ?_
                          obtain ⟨v_18, ev_18, hf⟩ := ob hf
                          refine g_getN hX X I gfX1_336 (gI_in ev_18) dX1_ride_147 ?_
                          refine lv_goto (tgt := 190) hx hb dX1_ride_150 (by decide) ?_
                          cases os hf
                          exact x_ret (r_iret X I dX1_ride_190)
                        · have hf := im c_7_10 hf
                          by_cases c_7_11 : x2 = 11
                          · have hf := ip c_7_11 hf
                            refine lv_tableIn (off := 146) (tgt := 153) hx hb dX1_ride_7 (by rw [c_7_11]; decide) (by rw [c_7_11]; decide) (by rw [c_7_11]; rfl) (by decide) ?_
                            refine lv_aload_n hx hb dX1_ride_153 rfl (lv_at hl 0 rfl) ?_
                            obtain ⟨v_19, ev_19, hf⟩ := ob hf
                            refine g_getN hX X I gfX1_339 (gI_in ev_19) dX1_ride_154 ?_
                            refine lv_goto (tgt := 190) hx hb dX1_ride_157 (by decide) ?_
                            cases os hf
                            exact x_ret (r_iret X I dX1_ride_190)
                          · have hf := im c_7_11 hf
                            by_cases c_7_12 : x2 = 12
                            · have hf := ip c_7_12 hf
                              refine lv_tableIn (off := 153) (tgt := 160) hx hb dX1_ride_7 (by rw [c_7_12]; decide) (by rw [c_7_12]; decide) (by rw [c_7_12]; rfl) (by decide) ?_
                              refine lv_aload_n hx hb dX1_ride_160 rfl (lv_at hl 0 rfl) ?_
                              obtain ⟨v_20, ev_20, hf⟩ := ob hf
                              refine g_getN hX X I gfX1_342 (gI_in ev_20) dX1_ride_161 ?_
                              refine lv_goto (tgt := 190) hx hb dX1_ride_164 (by decide) ?_
                              cases os hf
                              exact x_ret (r_iret X I dX1_ride_190)
                            · have hf := im c_7_12 hf
                              by_cases c_7_13 : x2 = 13
                              · have hf := ip c_7_13 hf
                                refine lv_tableIn (off := 160) (tgt := 167) hx hb dX1_ride_7 (by rw [c_7_13]; decide) (by rw [c_7_13]; decide) (by rw [c_7_13]; rfl) (by decide) ?_
                                refine lv_aload_n hx hb dX1_ride_167 rfl (lv_at hl 0 rfl) ?_
                                obtain ⟨v_21, ev_21, hf⟩ := ob hf
                                refine g_getN hX X I gfX1_345 (gI_in ev_21) dX1_ride_168 ?_
                                refine lv_if_eq (tgt := 178) hx hb dX1_ride_171 (by decide) (fun c_171 => ?_) (fun c_171 => ?_)
                                · have hf := ip c_171 hf
                                  refine lv_iconst (v := 0) hx hb dX1_ride_178 (by decide) ?_
                                  refine lv_goto (tgt := 190) hx hb dX1_ride_179 (by decide) ?_
                                  cases os hf
                                  exact x_ret (r_iret X I dX1_ride_190)
                                · have hf := im c_171 hf
                                  refine lv_iconst (v := 1) hx hb dX1_ride_174 (by decide) ?_
                                  refine lv_goto (tgt := 190) hx hb dX1_ride_175 (by decide) ?_
                                  cases os hf
                                  exact x_ret (r_iret X I dX1_ride_190)
                              · have hf := im c_7_13 hf
                                refine lv_tableOut (tgt := 182) hx hb dX1_ride_7 (by exact sw_out 0 13 (fun k h1 h2 => by rcases (show k = 0 ∨ k = 1 ∨ k = 2 ∨ k = 3 ∨ k = 4 ∨ k = 5 ∨ k = 6 ∨ k = 7 ∨ k = 8 ∨ k = 9 ∨ k = 10 ∨ k = 11 ∨ k = 12 ∨ k = 13 by omega) with rfl | rfl | rfl | rfl | rfl | rfl | rfl | rfl | rfl | rfl | rfl | rfl | rfl | rfl; exact c_7_0; exact c_7_1; exact c_7_2; exact c_7_3; exact c_7_4; exact c_7_5; exact c_7_6; exact c_7_7; exact c_7_8; exact c_7_9; exact c_7_10; exact c_7_11; exact c_7_12; exact c_7_13)) (by decide) ?_
                                obtain ⟨⟨q_22a, q_22s⟩, eq_22, hf⟩ := ob hf
                                refine x_make (cls := RJ22) (names := xnm) (ik := 1) (ic := 3) hX hS X I rfl (by decide) xnm_fit q415 q148 xat_E22 eq_22 hl.1 ⟨Nat.le_trans (Nat.le_of_ble_eq_true rfl) hR.1, Nat.le_trans (Nat.le_of_ble_eq_true rfl) hR.2⟩ (Nat.le_of_ble_eq_true rfl) dX1_ride_182 dX1_ride_185 dX1_ride_186 (fun H locs cells slots I => ?_)
                                obtain ⟨u_23, eu_23, hf⟩ := ob hf
                                cases os hf
                                exact x_athrow X XH rfl I eu_23 dX1_ride_189
  · have hf := se_r hgv_2
    obtain ⟨uq_5, eq_5, hf⟩ := ob hf
    cases os hf
    refine cx_thr I (xr_V (vw := (RX1, TX1, 7)) (ci := 0) (σ' := σ_3) (rest := []) (As := [.int x1]) X I eu_1 rfl (mX1_rideAt hX hS ev_2) lvX1_309 hdX1_309 ⟨Nat.le_trans (Nat.le_of_ble_eq_true rfl) hR.1, Nat.le_trans (Nat.le_of_ble_eq_true rfl) hR.2⟩ rfl hl.1 rfl (Nat.le_of_ble_eq_true rfl) dX1_ride_2) (fun H locs cells slots I => ?_)
    exact x_out X XH rfl I eq_5
theorem mX1_ride {E : EV} {l : Launch} {σ : St} {x0 : Nat} {x1 : Int32} {x2 : Int32} {res : ((Int32 ⊕ Nat) × St)} (hX : XK E) (hS : l.stackTraces = false) (hf : fX1_ride σ x0 x1 x2 = some res) : CX E l yX1_ride (ws_ yX1_ride cX1_ride 4 (some .int)) 8 130 [.ref x0, .int x1, .int x2] σ (sv (fun v => (some (.int v))) res.1) (sx res.1) res.2 := by
  refine CX.of hX.1 (by decide) rfl rfl (Nat.le_of_ble_eq_true rfl) ?_
  intro p e s m below meth c X XH I ls hl
  exact wX1_ride_0 hX ⟨Nat.le_refl _, Nat.le_refl _⟩ X XH hS _ _ _ _ _ _ _ _ _ I hl hf
/-! SharedTaxisLaw.ride(LSharedTaxis;II[J)I imp=True fuel=False kap=False rt=I thr=False -/
theorem lvX0_37 : GoodIn lw_all (wsV RX0 37 RX1 yX1_ride (ws_ yX1_ride cX1_ride 4 (some .int))) := lw_V q1734 q1735 q1736 q113 q1737
theorem hdX0_37 : yX1_ride.cls = RX1 ∧ yX1_ride.cls ≠ "java/lang/invoke/MethodHandle" ∧ yX1_ride.cls ≠ "java/lang/invoke/VarHandle" ∧ (parseMethodDescriptor yX1_ride.desc).map (fun d => d.parameters.length) = some 2 := by decide +kernel
def fX0_ride (σ : St) (x0 : Nat) (x1 : Int32) (x2 : Int32) (x3 : Nat) : Option (Int32 × St) := (isC σ x0 0).bind fun u_1 : Unit => (fX1_ride σ x0 x1 x2).bind fun (v_2, σ_3) => se v_2 (fun v_4 => (sJ σ_3 x3 (0 : Int32) (v_4.toInt64)).bind fun σ_6 : St => some ((0 : Int32), σ_6)) (fun q_5 => (clsX σ_3 q_5).bind fun c_7 : Nat => if c_7 = 34 then some ((1 : Int32), σ_3) else none)
theorem wX0_ride_0 {E : EV} {l : Launch} {p : Program} {e : Env} {s : State} {m : MethodId} {args : Array Value} {below : List Frame} {meth : Method} {c : Code} {R : Room} {res : (Int32 × St)} (hX : XK E) (hR : 9 ≤ R.frames ∧ 153 ≤ R.locals) (X : MX E p s m args meth c cX0_ride 5 (some .int) RX0 "ride") (XH : MH c [(0, 10, 13, 18)]) (hS : l.stackTraces = false) : ∀ (x0 : Nat) (x1 : Int32) (x2 : Int32) (x3 : Nat) (σ : St) (H : Heap) (locs : List Loc) (cells slots : Nat) (ls : Array Slot), WI E R s σ H locs cells slots → lv_has ls 5 [(0, .ref x0), (1, .int x1), (2, .int x2), (3, .ref x3)] → fX0_ride σ x0 x1 x2 x3 = some res → W p l e R s m args below meth c H locs cells slots (vx_MQ below (QS E R.cells R.slots (some (some (.int res.1))) res.2) (XS E R.cells R.slots none res.2) args s R.cells R.slots (fr E)) (F0 m 0 ls []) := by
  intro x0 x1 x2 x3 σ H locs cells slots ls I hl hf
  obtain ⟨⟨hx, hb, hml, hown, hts⟩, -⟩ := id X
  unfold fX0_ride at hf
  refine lv_aload_n hx hb dX0_ride_0 rfl (lv_at hl 3 rfl) ?_
  refine lv_iconst (v := 0) hx hb dX0_ride_1 (by decide) ?_
  refine lv_aload_n hx hb dX0_ride_2 rfl (lv_at hl 0 rfl) ?_
  refine lv_iload_n hx hb dX0_ride_3 rfl (lv_at hl 1 rfl) ?_
  refine lv_iload_n hx hb dX0_ride_4 rfl (lv_at hl 2 rfl) ?_
  obtain ⟨u_1, eu_1, hf⟩ := ob hf
  obtain ⟨⟨v_2, σ_3⟩, ev_2, hf⟩ := ob hf
  have hgv_2 := hf
  rcases v_2 with v_4 | q_5
  · have hf := se_l hgv_2
    refine cx_ret (r := (some (.int v_4))) (rs := [.int v_4, .int (0 : Int32), .ref x3]) I (xr_V (vw := (RX1, TX1, 7)) (ci := 0) (σ' := σ_3) (rest := [.int (0 : Int32), .ref x3]) (As := [.int x1, .int x2]) X I eu_1 rfl (mX1_ride hX hS ev_2) lvX0_37 hdX0_37 ⟨Nat.le_trans (Nat.le_of_ble_eq_true rfl) hR.1, Nat.le_trans (Nat.le_of_ble_eq_true rfl) hR.2⟩ rfl hl.1 rfl (Nat.le_of_ble_eq_true rfl) dX0_ride_5) rfl (fun H locs cells slots I => ?_)
    refine lv_i2l hx hb dX0_ride_8 rfl ?_
    obtain ⟨σ_6, eσ_6, hf⟩ := ob hf
    refine g_last X I eσ_6 dX0_ride_9 (fun H locs I => ?_)
    refine lv_goto (tgt := 17) hx hb dX0_ride_10 (by decide) ?_
    refine lv_iconst (v := 0) hx hb dX0_ride_17 (by decide) ?_
    cases os hf
    exact x_ret (r_iret X I dX0_ride_18)
  · have hf := se_r hgv_2
    obtain ⟨c_7, ec_7, hf⟩ := ob hf
    refine cx_thr I (xr_V (vw := (RX1, TX1, 7)) (ci := 0) (σ' := σ_3) (rest := [.int (0 : Int32), .ref x3]) (As := [.int x1, .int x2]) X I eu_1 rfl (mX1_ride hX hS ev_2) lvX0_37 hdX0_37 ⟨Nat.le_trans (Nat.le_of_ble_eq_true rfl) hR.1, Nat.le_trans (Nat.le_of_ble_eq_true rfl) hR.2⟩ rfl hl.1 rfl (Nat.le_of_ble_eq_true rfl) dX0_ride_5) (fun H locs cells slots I => ?_)
    by_cases cc_7_E22 : c_7 = 34
    · have hf := ip cc_7_E22 hf
      refine x_catch (vw := (RJ22, TJ22, 0)) hX X XH I (cc_7_E22 ▸ ec_7) rfl ((tableOf [(0, 10, 13, 18)]).take 0) _ _ rfl (fun z hz => nomatch hz) rfl (by decide) q1558 q417 ?_
      refine lv_astore (lv' := [(4, .ref q_5), (0, .ref x0), (1, .int x1), (2, .int x2), (3, .ref x3)]) hx hb dX0_ride_13 hl (by decide) rfl (fun ls hl => ?_)
      refine lv_iconst (v := 1) hx hb dX0_ride_15 (by decide) ?_
      cases os hf
      exact x_ret (r_iret X I dX0_ride_16)
    · have hf := im cc_7_E22 hf
      exact nomatch hf
theorem mX0_ride {E : EV} {l : Launch} {σ : St} {x0 : Nat} {x1 : Int32} {x2 : Int32} {x3 : Nat} {res : (Int32 × St)} (hX : XK E) (hS : l.stackTraces = false) (hf : fX0_ride σ x0 x1 x2 x3 = some res) : CX E l yX0_ride (wsW_ yX0_ride cX0_ride 5 (some .int) [(0, 10, 13, 18)]) 9 153 [.ref x0, .int x1, .int x2, .ref x3] σ (some (some (.int res.1))) none res.2 := by
  refine CX.ofH hX.1 (by decide) rfl rfl (Nat.le_of_ble_eq_true rfl) ?_
  intro p e s m below meth c X XH I ls hl
  exact wX0_ride_0 hX ⟨Nat.le_refl _, Nat.le_refl _⟩ X XH hS _ _ _ _ _ _ _ _ _ _ I hl hf
/-! SharedTaxis$Offer.part(I)I imp=False fuel=False kap=False rt=I thr=False -/
theorem gfX17_7 : ∀ q ∈ ([(15, 0)] : List (Nat × Nat)), GF RX17 7 q := List.forall_mem_cons.mpr ⟨⟨RX17, TX17, 5, _, rfl, in_X17, by decide, q2095, Or.inl rfl⟩, fun _ h => by cases h⟩
theorem gfX17_18 : ∀ q ∈ ([(15, 1)] : List (Nat × Nat)), GF RX17 18 q := List.forall_mem_cons.mpr ⟨⟨RX17, TX17, 5, _, rfl, in_X17, by decide, q2097, Or.inl rfl⟩, fun _ h => by cases h⟩
theorem gfX17_22 : ∀ q ∈ ([(15, 2)] : List (Nat × Nat)), GF RX17 22 q := List.forall_mem_cons.mpr ⟨⟨RX17, TX17, 5, _, rfl, in_X17, by decide, q2099, Or.inl rfl⟩, fun _ h => by cases h⟩
theorem gfX17_26 : ∀ q ∈ ([(15, 3)] : List (Nat × Nat)), GF RX17 26 q := List.forall_mem_cons.mpr ⟨⟨RX17, TX17, 5, _, rfl, in_X17, by decide, q2101, Or.inl rfl⟩, fun _ h => by cases h⟩
theorem gfX17_27 : ∀ q ∈ ([(15, 4)] : List (Nat × Nat)), GF RX17 27 q := List.forall_mem_cons.mpr ⟨⟨RX17, TX17, 5, _, rfl, in_X17, by decide, q2102, Or.inl rfl⟩, fun _ h => by cases h⟩
def fX17_part (σ : St) (x0 : Nat) (x1 : Int32) : Option Int32 := if x1 = 0 then (gI σ x0 [(15, 0)]).bind fun v_1 : Int32 => some v_1 else if x1 = 1 then (gI σ x0 [(15, 1)]).bind fun v_2 : Int32 => some v_2 else if x1 = 2 then (gI σ x0 [(15, 2)]).bind fun v_3 : Int32 => some v_3 else if x1 = 3 then (gI σ x0 [(15, 3)]).bind fun v_4 : Int32 => some v_4 else (gI σ x0 [(15, 4)]).bind fun v_5 : Int32 => some v_5
theorem wX17_part_0 {E : EV} {l : Launch} {p : Program} {e : Env} {s : State} {m : MethodId} {args : Array Value} {below : List Frame} {meth : Method} {c : Code} {R : Room} {σ : St} {res : Int32} (hX : XK E) (hR : 0 ≤ R.frames ∧ 0 ≤ R.locals) (X : MX E p s m args meth c cX17_part 2 (some .int) RX17 "part") : ∀ (x0 : Nat) (x1 : Int32) (H : Heap) (locs : List Loc) (cells slots : Nat) (ls : Array Slot), WI E R s σ H locs cells slots → lv_has ls 2 [(0, .ref x0), (1, .int x1)] → fX17_part σ x0 x1 = some res → W p l e R s m args below meth c H locs cells slots (MQ below (Qd E R.cells R.slots (some (.int res)) σ) args s R.cells R.slots (fr E)) (F0 m 0 ls []) := by
  intro x0 x1 H locs cells slots ls I hl hf
  obtain ⟨⟨hx, hb, hml, hown, hts⟩, -⟩ := id X
  unfold fX17_part at hf
  refine lv_iload_n hx hb dX17_part_0 rfl (lv_at hl 1 rfl) ?_
  by_cases c_1_0 : x1 = 0
  · have hf := ip c_1_0 hf
    refine lv_tableIn (off := 31) (tgt := 32) hx hb dX17_part_1 (by rw [c_1_0]; decide) (by rw [c_1_0]; decide) (by rw [c_1_0]; rfl) (by decide) ?_
    refine lv_aload_n hx hb dX17_part_32 rfl (lv_at hl 0 rfl) ?_
    obtain ⟨v_1, ev_1, hf⟩ := ob hf
    refine g_get X I gfX17_7 (gI_in ev_1) dX17_part_33 ?_
    refine lv_goto (tgt := 64) hx hb dX17_part_36 (by decide) ?_
    cases os hf
    exact r_iret X I dX17_part_64
  · have hf := im c_1_0 hf
    by_cases c_1_1 : x1 = 1
    · have hf := ip c_1_1 hf
      refine lv_tableIn (off := 38) (tgt := 39) hx hb dX17_part_1 (by rw [c_1_1]; decide) (by rw [c_1_1]; decide) (by rw [c_1_1]; rfl) (by decide) ?_
      refine lv_aload_n hx hb dX17_part_39 rfl (lv_at hl 0 rfl) ?_
      obtain ⟨v_2, ev_2, hf⟩ := ob hf
      refine g_get X I gfX17_18 (gI_in ev_2) dX17_part_40 ?_
      refine lv_goto (tgt := 64) hx hb dX17_part_43 (by decide) ?_
      cases os hf
      exact r_iret X I dX17_part_64
    · have hf := im c_1_1 hf
      by_cases c_1_2 : x1 = 2
      · have hf := ip c_1_2 hf
        refine lv_tableIn (off := 45) (tgt := 46) hx hb dX17_part_1 (by rw [c_1_2]; decide) (by rw [c_1_2]; decide) (by rw [c_1_2]; rfl) (by decide) ?_
        refine lv_aload_n hx hb dX17_part_46 rfl (lv_at hl 0 rfl) ?_
        obtain ⟨v_3, ev_3, hf⟩ := ob hf
        refine g_get X I gfX17_22 (gI_in ev_3) dX17_part_47 ?_
        refine lv_goto (tgt := 64) hx hb dX17_part_50 (by decide) ?_
        cases os hf
        exact r_iret X I dX17_part_64
      · have hf := im c_1_2 hf
        by_cases c_1_3 : x1 = 3
        · have hf := ip c_1_3 hf
          refine lv_tableIn (off := 52) (tgt := 53) hx hb dX17_part_1 (by rw [c_1_3]; decide) (by rw [c_1_3]; decide) (by rw [c_1_3]; rfl) (by decide) ?_
          refine lv_aload_n hx hb dX17_part_53 rfl (lv_at hl 0 rfl) ?_
          obtain ⟨v_4, ev_4, hf⟩ := ob hf
          refine g_get X I gfX17_26 (gI_in ev_4) dX17_part_54 ?_
          refine lv_goto (tgt := 64) hx hb dX17_part_57 (by decide) ?_
          cases os hf
          exact r_iret X I dX17_part_64
        · have hf := im c_1_3 hf
          refine lv_tableOut (tgt := 60) hx hb dX17_part_1 (by exact sw_out 0 3 (fun k h1 h2 => by rcases (show k = 0 ∨ k = 1 ∨ k = 2 ∨ k = 3 by omega) with rfl | rfl | rfl | rfl; exact c_1_0; exact c_1_1; exact c_1_2; exact c_1_3)) (by decide) ?_
          refine lv_aload_n hx hb dX17_part_60 rfl (lv_at hl 0 rfl) ?_
          obtain ⟨v_5, ev_5, hf⟩ := ob hf
          refine g_get X I gfX17_27 (gI_in ev_5) dX17_part_61 ?_
          cases os hf
          exact r_iret X I dX17_part_64
theorem mX17_part {E : EV} {l : Launch} {σ : St} {x0 : Nat} {x1 : Int32} {res : Int32} (hX : XK E) (hf : fX17_part σ x0 x1 = some res) : CM E l yX17_part (ws_ yX17_part cX17_part 2 (some .int)) 0 0 [.ref x0, .int x1] σ (some (.int res)) σ := by
  refine CM.of hX.1 (by decide) rfl rfl (Nat.le_of_ble_eq_true rfl) ?_
  intro p e s m below meth c X I ls hl
  exact wX17_part_0 hX ⟨Nat.le_refl _, Nat.le_refl _⟩ X _ _ _ _ _ _ _ I hl hf
/-! SharedTaxis.offer(II)I imp=True fuel=False kap=False rt=I thr=True -/
theorem gfX1_350 : ∀ q ∈ ([(14, 14)] : List (Nat × Nat)), GN RX1 350 q := List.forall_mem_cons.mpr ⟨⟨RX16, TX16, 15, _, rfl, in_X16, by decide, q1151⟩, fun _ h => by cases h⟩
theorem lvX1_353 : GoodIn lw_all (wsV RX1 353 RX17 yX17_part (ws_ yX17_part cX17_part 2 (some .int))) := lw_V q1754 q1755 q1756 q154 q1757
theorem hdX1_353 : yX17_part.cls = RX17 ∧ yX17_part.cls ≠ "java/lang/invoke/MethodHandle" ∧ yX17_part.cls ≠ "java/lang/invoke/VarHandle" ∧ (parseMethodDescriptor yX17_part.desc).map (fun d => d.parameters.length) = some 1 := by decide +kernel
def fX1_offer (σ : St) (x0 : Nat) (x1 : Int32) (x2 : Int32) : Option ((Int32 ⊕ Nat) × St) := (isC σ x0 0).bind fun u_1 : Unit => (fX1_rideAt σ x0 x1).bind fun (v_2, σ_3) => se v_2 (fun v_4 => (fX1_inRange σ_3 (x2.toInt64) (0 : Int64) (4 : Int64)).bind fun v_6 : Int32 => (fX1_requireExists σ_3 v_6).bind fun (v_8, σ_9) => se v_8 (fun v_10 => (gI σ_9 v_4 [(14, 8)]).bind fun v_12 : Int32 => if v_12 = 0 then (gR σ_9 v_4 [(14, 14)]).bind fun v_13 : Option Nat => (v_13).bind fun a_14 : Nat => (isC σ_9 a_14 15).bind fun u_15 : Unit => (fX17_part σ_9 a_14 x2).bind fun v_16 : Int32 => some (.inl v_16, σ_9) else some (.inl (-1 : Int32), σ_9)) (fun q_11 => (isX σ_9 q_11).bind fun uq_11 : Unit => some (.inr q_11, σ_9))) (fun q_5 => (isX σ_3 q_5).bind fun uq_5 : Unit => some (.inr q_5, σ_3))
theorem wX1_offer_0 {E : EV} {l : Launch} {p : Program} {e : Env} {s : State} {m : MethodId} {args : Array Value} {below : List Frame} {meth : Method} {c : Code} {R : Room} {res : ((Int32 ⊕ Nat) × St)} (hX : XK E) (hR : 8 ≤ R.frames ∧ 130 ≤ R.locals) (X : MX E p s m args meth c cX1_offer 4 (some .int) RX1 "offer") (XH : MH c []) (hS : l.stackTraces = false) : ∀ (x0 : Nat) (x1 : Int32) (x2 : Int32) (σ : St) (H : Heap) (locs : List Loc) (cells slots : Nat) (ls : Array Slot), WI E R s σ H locs cells slots → lv_has ls 4 [(0, .ref x0), (1, .int x1), (2, .int x2)] → fX1_offer σ x0 x1 x2 = some res → W p l e R s m args below meth c H locs cells slots (vx_MQ below (QS E R.cells R.slots (sv (fun v => (some (.int v))) res.1) res.2) (XS E R.cells R.slots (sx res.1) res.2) args s R.cells R.slots (fr E)) (F0 m 0 ls []) := by
  intro x0 x1 x2 σ H locs cells slots ls I hl hf
  obtain ⟨⟨hx, hb, hml, hown, hts⟩, -⟩ := id X
  unfold fX1_offer at hf
  refine lv_aload_n hx hb dX1_offer_0 rfl (lv_at hl 0 rfl) ?_
  refine lv_iload_n hx hb dX1_offer_1 rfl (lv_at hl 1 rfl) ?_
  obtain ⟨u_1, eu_1, hf⟩ := ob hf
  obtain ⟨⟨v_2, σ_3⟩, ev_2, hf⟩ := ob hf
  have hgv_2 := hf
  rcases v_2 with v_4 | q_5
  · have hf := se_l hgv_2
    refine cx_ret (r := (some (.ref v_4))) (rs := [.ref v_4]) I (xr_V (vw := (RX1, TX1, 7)) (ci := 0) (σ' := σ_3) (rest := []) (As := [.int x1]) X I eu_1 rfl (mX1_rideAt hX hS ev_2) lvX1_309 hdX1_309 ⟨Nat.le_trans (Nat.le_of_ble_eq_true rfl) hR.1, Nat.le_trans (Nat.le_of_ble_eq_true rfl) hR.2⟩ rfl hl.1 rfl (Nat.le_of_ble_eq_true rfl) dX1_offer_2) rfl (fun H locs cells slots I => ?_)
    refine lv_astore_n (lv' := [(3, .ref v_4), (0, .ref x0), (1, .int x1), (2, .int x2)]) hx hb dX1_offer_5 rfl hl (by decide) rfl (fun ls hl => ?_)
    refine lv_iload_n hx hb dX1_offer_6 rfl (lv_at hl 3 rfl) ?_
    refine lv_i2l hx hb dX1_offer_7 rfl ?_
    refine lv_lconst (v := 0) hx hb dX1_offer_8 (by decide) ?_
    refine lv_ldc2 (v := 4) hx hb hown (hts _ q1753) dX1_offer_9 ?_
    obtain ⟨v_6, ev_6, hf⟩ := ob hf
    refine cg_S (r := (some (.int v_6))) (σ' := σ_3) (rs := [.int v_6]) (rest := []) (As := [.long (x2.toInt64), .long (0 : Int64), .long (4 : Int64)]) X I (mX1_inRange hX ev_6) lvX1_125 hdX1_125 ⟨Nat.le_trans (Nat.le_of_ble_eq_true rfl) hR.1, Nat.le_trans (Nat.le_of_ble_eq_true rfl) hR.2⟩ rfl hl.1 rfl (Nat.le_of_ble_eq_true rfl) rfl dX1_offer_12 (fun H locs cells slots I => ?_)
    obtain ⟨⟨v_8, σ_9⟩, ev_8, hf⟩ := ob hf
    have hgv_8 := hf
    rcases v_8 with v_10 | q_11
    · have hf := se_l hgv_8
      refine cx_ret (r := none) (rs := []) I (xr_S (σ' := σ_9) (rest := []) (As := [.int v_6]) X I (mX1_requireExists hX hS ev_8) lvX1_129 hdX1_129 ⟨Nat.le_trans (Nat.le_of_ble_eq_true rfl) hR.1, Nat.le_trans (Nat.le_of_ble_eq_true rfl) hR.2⟩ rfl hl.1 rfl (Nat.le_of_ble_eq_true rfl) dX1_offer_15) rfl (fun H locs cells slots I => ?_)
      refine lv_aload_n hx hb dX1_offer_18 rfl (lv_at hl 0 rfl) ?_
      obtain ⟨v_12, ev_12, hf⟩ := ob hf
      refine g_getN hX X I gfX1_313 (gI_in ev_12) dX1_offer_19 ?_
      refine lv_if_ne (tgt := 36) hx hb dX1_offer_22 (by decide) (fun c_22 => ?_) (fun c_22 => ?_)
      · have hf := im c_22 hf
        refine lv_iconst (v := (-1)) hx hb dX1_offer_36 (by decide) ?_
        cases os hf
        exact x_ret (r_iret X I dX1_offer_37)
      · have hf := ip c_22 hf
        refine lv_aload_n hx hb dX1_offer_25 rfl (lv_at hl 0 rfl) ?_
        obtain ⟨v_13, ev_13, hf⟩ := ob hf
        refine g_getN hX X I gfX1_350 (gR_in ev_13) dX1_offer_26 ?_
        refine lv_iload_n hx hb dX1_offer_29 rfl (lv_at hl 3 rfl) ?_
        obtain ⟨a_14, ea_14, hga_14⟩ := ob hf
        have hla_14 := hl
        have Ia_14 := I
        subst ea_14
        have hf := hga_14
        have hl := hla_14
        have I := Ia_14
        obtain ⟨u_15, eu_15, hf⟩ := ob hf
        obtain ⟨v_16, ev_16, hf⟩ := ob hf
        refine cg_V (vw := (RX17, TX17, 5)) (ci := 15) (r := (some (.int v_16))) (σ' := σ_9) (rs := [.int v_16]) (rest := []) (As := [.int x2]) X I eu_15 rfl (mX17_part hX ev_16) lvX1_353 hdX1_353 ⟨Nat.le_trans (Nat.le_of_ble_eq_true rfl) hR.1, Nat.le_trans (Nat.le_of_ble_eq_true rfl) hR.2⟩ rfl hl.1 rfl (Nat.le_of_ble_eq_true rfl) rfl dX1_offer_30 (fun H locs cells slots I => ?_)
        refine lv_goto (tgt := 37) hx hb dX1_offer_33 (by decide) ?_
        cases os hf
        exact x_ret (r_iret X I dX1_offer_37)
    · have hf := se_r hgv_8
      obtain ⟨uq_11, eq_11, hf⟩ := ob hf
      cases os hf
      refine cx_thr I (xr_S (σ' := σ_9) (rest := []) (As := [.int v_6]) X I (mX1_requireExists hX hS ev_8) lvX1_129 hdX1_129 ⟨Nat.le_trans (Nat.le_of_ble_eq_true rfl) hR.1, Nat.le_trans (Nat.le_of_ble_eq_true rfl) hR.2⟩ rfl hl.1 rfl (Nat.le_of_ble_eq_true rfl) dX1_offer_15) (fun H locs cells slots I => ?_)
      exact x_out X XH rfl I eq_11
  · have hf := se_r hgv_2
    obtain ⟨uq_5, eq_5, hf⟩ := ob hf
    cases os hf
    refine cx_thr I (xr_V (vw := (RX1, TX1, 7)) (ci := 0) (σ' := σ_3) (rest := []) (As := [.int x1]) X I eu_1 rfl (mX1_rideAt hX hS ev_2) lvX1_309 hdX1_309 ⟨Nat.le_trans (Nat.le_of_ble_eq_true rfl) hR.1, Nat.le_trans (Nat.le_of_ble_eq_true rfl) hR.2⟩ rfl hl.1 rfl (Nat.le_of_ble_eq_true rfl) dX1_offer_2) (fun H locs cells slots I => ?_)
    exact x_out X XH rfl I eq_5
theorem mX1_offer {E : EV} {l : Launch} {σ : St} {x0 : Nat} {x1 : Int32} {x2 : Int32} {res : ((Int32 ⊕ Nat) × St)} (hX : XK E) (hS : l.stackTraces = false) (hf : fX1_offer σ x0 x1 x2 = some res) : CX E l yX1_offer (ws_ yX1_offer cX1_offer 4 (some .int)) 8 130 [.ref x0, .int x1, .int x2] σ (sv (fun v => (some (.int v))) res.1) (sx res.1) res.2 := by
  refine CX.of hX.1 (by decide) rfl rfl (Nat.le_of_ble_eq_true rfl) ?_
  intro p e s m below meth c X XH I ls hl
  exact wX1_offer_0 hX ⟨Nat.le_refl _, Nat.le_refl _⟩ X XH hS _ _ _ _ _ _ _ _ _ I hl hf
/-! SharedTaxisLaw.offer(LSharedTaxis;II[J)I imp=True fuel=False kap=False rt=I thr=False -/
theorem lvX0_40 : GoodIn lw_all (wsV RX0 40 RX1 yX1_offer (ws_ yX1_offer cX1_offer 4 (some .int))) := lw_V q1749 q1750 q1751 q113 q1752
theorem hdX0_40 : yX1_offer.cls = RX1 ∧ yX1_offer.cls ≠ "java/lang/invoke/MethodHandle" ∧ yX1_offer.cls ≠ "java/lang/invoke/VarHandle" ∧ (parseMethodDescriptor yX1_offer.desc).map (fun d => d.parameters.length) = some 2 := by decide +kernel
def fX0_offer (σ : St) (x0 : Nat) (x1 : Int32) (x2 : Int32) (x3 : Nat) : Option (Int32 × St) := (isC σ x0 0).bind fun u_1 : Unit => (fX1_offer σ x0 x1 x2).bind fun (v_2, σ_3) => se v_2 (fun v_4 => (sJ σ_3 x3 (0 : Int32) (v_4.toInt64)).bind fun σ_6 : St => some ((0 : Int32), σ_6)) (fun q_5 => (clsX σ_3 q_5).bind fun c_7 : Nat => if c_7 = 34 then some ((1 : Int32), σ_3) else none)
theorem wX0_offer_0 {E : EV} {l : Launch} {p : Program} {e : Env} {s : State} {m : MethodId} {args : Array Value} {below : List Frame} {meth : Method} {c : Code} {R : Room} {res : (Int32 × St)} (hX : XK E) (hR : 9 ≤ R.frames ∧ 153 ≤ R.locals) (X : MX E p s m args meth c cX0_offer 5 (some .int) RX0 "offer") (XH : MH c [(0, 10, 13, 18)]) (hS : l.stackTraces = false) : ∀ (x0 : Nat) (x1 : Int32) (x2 : Int32) (x3 : Nat) (σ : St) (H : Heap) (locs : List Loc) (cells slots : Nat) (ls : Array Slot), WI E R s σ H locs cells slots → lv_has ls 5 [(0, .ref x0), (1, .int x1), (2, .int x2), (3, .ref x3)] → fX0_offer σ x0 x1 x2 x3 = some res → W p l e R s m args below meth c H locs cells slots (vx_MQ below (QS E R.cells R.slots (some (some (.int res.1))) res.2) (XS E R.cells R.slots none res.2) args s R.cells R.slots (fr E)) (F0 m 0 ls []) := by
  intro x0 x1 x2 x3 σ H locs cells slots ls I hl hf
  obtain ⟨⟨hx, hb, hml, hown, hts⟩, -⟩ := id X
  unfold fX0_offer at hf
  refine lv_aload_n hx hb dX0_offer_0 rfl (lv_at hl 3 rfl) ?_
  refine lv_iconst (v := 0) hx hb dX0_offer_1 (by decide) ?_
  refine lv_aload_n hx hb dX0_offer_2 rfl (lv_at hl 0 rfl) ?_
  refine lv_iload_n hx hb dX0_offer_3 rfl (lv_at hl 1 rfl) ?_
  refine lv_iload_n hx hb dX0_offer_4 rfl (lv_at hl 2 rfl) ?_
  obtain ⟨u_1, eu_1, hf⟩ := ob hf
  obtain ⟨⟨v_2, σ_3⟩, ev_2, hf⟩ := ob hf
  have hgv_2 := hf
  rcases v_2 with v_4 | q_5
  · have hf := se_l hgv_2
    refine cx_ret (r := (some (.int v_4))) (rs := [.int v_4, .int (0 : Int32), .ref x3]) I (xr_V (vw := (RX1, TX1, 7)) (ci := 0) (σ' := σ_3) (rest := [.int (0 : Int32), .ref x3]) (As := [.int x1, .int x2]) X I eu_1 rfl (mX1_offer hX hS ev_2) lvX0_40 hdX0_40 ⟨Nat.le_trans (Nat.le_of_ble_eq_true rfl) hR.1, Nat.le_trans (Nat.le_of_ble_eq_true rfl) hR.2⟩ rfl hl.1 rfl (Nat.le_of_ble_eq_true rfl) dX0_offer_5) rfl (fun H locs cells slots I => ?_)
    refine lv_i2l hx hb dX0_offer_8 rfl ?_
    obtain ⟨σ_6, eσ_6, hf⟩ := ob hf
    refine g_last X I eσ_6 dX0_offer_9 (fun H locs I => ?_)
    refine lv_goto (tgt := 17) hx hb dX0_offer_10 (by decide) ?_
    refine lv_iconst (v := 0) hx hb dX0_offer_17 (by decide) ?_
    cases os hf
    exact x_ret (r_iret X I dX0_offer_18)
  · have hf := se_r hgv_2
    obtain ⟨c_7, ec_7, hf⟩ := ob hf
    refine cx_thr I (xr_V (vw := (RX1, TX1, 7)) (ci := 0) (σ' := σ_3) (rest := [.int (0 : Int32), .ref x3]) (As := [.int x1, .int x2]) X I eu_1 rfl (mX1_offer hX hS ev_2) lvX0_40 hdX0_40 ⟨Nat.le_trans (Nat.le_of_ble_eq_true rfl) hR.1, Nat.le_trans (Nat.le_of_ble_eq_true rfl) hR.2⟩ rfl hl.1 rfl (Nat.le_of_ble_eq_true rfl) dX0_offer_5) (fun H locs cells slots I => ?_)
    by_cases cc_7_E22 : c_7 = 34
    · have hf := ip cc_7_E22 hf
      refine x_catch (vw := (RJ22, TJ22, 0)) hX X XH I (cc_7_E22 ▸ ec_7) rfl ((tableOf [(0, 10, 13, 18)]).take 0) _ _ rfl (fun z hz => nomatch hz) rfl (by decide) q1558 q417 ?_
      refine lv_astore (lv' := [(4, .ref q_5), (0, .ref x0), (1, .int x1), (2, .int x2), (3, .ref x3)]) hx hb dX0_offer_13 hl (by decide) rfl (fun ls hl => ?_)
      refine lv_iconst (v := 1) hx hb dX0_offer_15 (by decide) ?_
      cases os hf
      exact x_ret (r_iret X I dX0_offer_16)
    · have hf := im cc_7_E22 hf
      exact nomatch hf
theorem mX0_offer {E : EV} {l : Launch} {σ : St} {x0 : Nat} {x1 : Int32} {x2 : Int32} {x3 : Nat} {res : (Int32 × St)} (hX : XK E) (hS : l.stackTraces = false) (hf : fX0_offer σ x0 x1 x2 x3 = some res) : CX E l yX0_offer (wsW_ yX0_offer cX0_offer 5 (some .int) [(0, 10, 13, 18)]) 9 153 [.ref x0, .int x1, .int x2, .ref x3] σ (some (some (.int res.1))) none res.2 := by
  refine CX.ofH hX.1 (by decide) rfl rfl (Nat.le_of_ble_eq_true rfl) ?_
  intro p e s m below meth c X XH I ls hl
  exact wX0_offer_0 hX ⟨Nat.le_refl _, Nat.le_refl _⟩ X XH hS _ _ _ _ _ _ _ _ _ _ I hl hf
/-! SharedTaxis$Search.<init>(LSharedTaxis$State;)V imp=True fuel=False kap=True rt=None thr=False -/
theorem noX14_9 : NO RX14 9 21 3 [.int 0, .null, .int 0] := ⟨RJ2, TJ2, tyJ2, rfl, in_J2, tyJ2_ok, by decide, q1771, q204, q118⟩
theorem lvX14_11 : GoodIn lw_all (ws_ yJ2_init cJ2_init 1 none) ∧ Cond.initialized yJ2_init.cls ∈ lw_all ∧ Cond.methodLink RX14 11 yJ2_init ∈ lw_all ∧ Cond.instanceMethod yJ2_init ∈ lw_all ∧ yJ2_init.name = "<init>" := ⟨lw_meth q207, q118, q1772, q206, rfl⟩
theorem hdX14_11 : yJ2_init.cls ≠ "java/lang/invoke/MethodHandle" ∧ yJ2_init.cls ≠ "java/lang/invoke/VarHandle" ∧ (parseMethodDescriptor yJ2_init.desc).map (fun d => d.parameters.length) = some 0 := by decide +kernel
theorem pfX14_12 : ∀ q ∈ ([(12, 2)] : List (Nat × Nat)), PI RX14 12 (.object "java/util/List") q := List.forall_mem_cons.mpr ⟨⟨RX14, TX14, 8, tyX14, rfl, in_X14, by decide, q1777, rfl, tyX14_ok, nmX14, rfl, rfl⟩, fun _ h => by cases h⟩
theorem pfX14_18 : ∀ q ∈ ([(12, 0)] : List (Nat × Nat)), PI RX14 18 (.object "SharedTaxis$State") q := List.forall_mem_cons.mpr ⟨⟨RX14, TX14, 8, tyX14, rfl, in_X14, by decide, q1775, rfl, tyX14_ok, nmX14, rfl, rfl⟩, fun _ h => by cases h⟩
theorem noX14_22 : NO RX14 22 11 17 [.null, .null, .null, .int 0, .int 0, .int 0, .int 0, .null, .null, .int 0, .int 0, .int 0, .int 0, .int 0, .int 0, .int 0, .null] := ⟨RX13, TX13, tyX13, rfl, in_X13, tyX13_ok, by decide, q1773, q1633, q149⟩
theorem lvX14_24 : GoodIn lw_all (ws_ yX13_init cX13_init 2 none) ∧ Cond.initialized yX13_init.cls ∈ lw_all ∧ Cond.methodLink RX14 24 yX13_init ∈ lw_all ∧ Cond.instanceMethod yX13_init ∈ lw_all ∧ yX13_init.name = "<init>" := ⟨lw_meth q1636, q149, q1774, q1635, rfl⟩
theorem hdX14_24 : yX13_init.cls ≠ "java/lang/invoke/MethodHandle" ∧ yX13_init.cls ≠ "java/lang/invoke/VarHandle" ∧ (parseMethodDescriptor yX13_init.desc).map (fun d => d.parameters.length) = some 1 := by decide +kernel
theorem pfX14_27 : ∀ q ∈ ([(12, 1)] : List (Nat × Nat)), PI RX14 27 (.object "SharedTaxis$Walk") q := List.forall_mem_cons.mpr ⟨⟨RX14, TX14, 8, tyX14, rfl, in_X14, by decide, q1776, rfl, tyX14_ok, nmX14, rfl, rfl⟩, fun _ h => by cases h⟩
def fX14_init (κ : Nat → Nat) (σ : St) (x0 : Nat) (x1 : Nat) : Option St := (nH σ 3 (.inr (21, [.int 0, .null, .int 0]))).bind fun (q_1a, q_1s) => (fJ2_init κ q_1s q_1a).bind fun σ_3 : St => (pV σ_3 x0 [(12, 2)] (.ref q_1a)).bind fun σ_4 : St => (pV σ_4 x0 [(12, 0)] (.ref x1)).bind fun σ_5 : St => (nH σ_5 17 (.inr (11, [.null, .null, .null, .int 0, .int 0, .int 0, .int 0, .null, .null, .int 0, .int 0, .int 0, .int 0, .int 0, .int 0, .int 0, .null]))).bind fun (q_6a, q_6s) => (fX13_init q_6s q_6a x1).bind fun σ_8 : St => (pV σ_8 x0 [(12, 1)] (.ref q_6a)).bind fun σ_9 : St => some σ_9
theorem wX14_init_0 {E : EV} {l : Launch} {p : Program} {e : Env} {s : State} {m : MethodId} {args : Array Value} {below : List Frame} {meth : Method} {c : Code} {R : Room} {res : St} (hX : XK E) (hR : 4 ≤ R.frames ∧ 80 ≤ R.locals) (X : MX E p s m args meth c cX14_init 2 none RX14 "<init>") : ∀ (x0 : Nat) (x1 : Nat) (σ : St) (H : Heap) (locs : List Loc) (cells slots : Nat) (ls : Array Slot), WI E R s σ H locs cells slots → lv_has ls 2 [(0, .ref x0), (1, .ref x1)] → fX14_init E.2.2.2.1 σ x0 x1 = some res → W p l e R s m args below meth c H locs cells slots (MQ below (Qd E R.cells R.slots none res) args s R.cells R.slots (fr E)) (F0 m 0 ls []) := by
  intro x0 x1 σ H locs cells slots ls I hl hf
  obtain ⟨⟨hx, hb, hml, hown, hts⟩, -⟩ := id X
  unfold fX14_init at hf
  refine lv_aload_n hx hb dX14_init_0 rfl (lv_at hl 0 rfl) ?_
  refine g_objInit X ⟨Nat.le_trans (Nat.le_of_ble_eq_true rfl) hR.1, Nat.le_trans (Nat.le_of_ble_eq_true rfl) hR.2⟩ q1770 hl.1 (Nat.le_of_ble_eq_true rfl) dX14_init_1 ?_
  refine lv_aload_n hx hb dX14_init_4 rfl (lv_at hl 0 rfl) ?_
  obtain ⟨⟨q_1a, q_1s⟩, eq_1, hf⟩ := ob hf
  refine g_new X I noX14_9 eq_1 dX14_init_5 (fun H locs cells slots I => ?_)
  refine lv_dup hx hb dX14_init_8 rfl ?_
  obtain ⟨σ_3, ev_2, hf⟩ := ob hf
  refine cm_I (σ' := σ_3) (rs := [.ref q_1a, .ref x0]) (rest := [.ref q_1a, .ref x0]) (As := []) X I (mJ2_init hX ev_2) lvX14_11 hdX14_11 ⟨Nat.le_trans (Nat.le_of_ble_eq_true rfl) hR.1, Nat.le_trans (Nat.le_of_ble_eq_true rfl) hR.2⟩ rfl hl.1 rfl (Nat.le_of_ble_eq_true rfl) rfl dX14_init_9 (fun H locs cells slots I => ?_)
  obtain ⟨σ_4, eσ_4, hf⟩ := ob hf
  refine g_putI X I pfX14_12 rfl rfl eσ_4 dX14_init_12 (fun H locs I => ?_)
  refine lv_aload_n hx hb dX14_init_15 rfl (lv_at hl 0 rfl) ?_
  refine lv_aload_n hx hb dX14_init_16 rfl (lv_at hl 1 rfl) ?_
  obtain ⟨σ_5, eσ_5, hf⟩ := ob hf
  refine g_putI X I pfX14_18 rfl rfl eσ_5 dX14_init_17 (fun H locs I => ?_)
  refine lv_aload_n hx hb dX14_init_20 rfl (lv_at hl 0 rfl) ?_
  obtain ⟨⟨q_6a, q_6s⟩, eq_6, hf⟩ := ob hf
  refine g_new X I noX14_22 eq_6 dX14_init_21 (fun H locs cells slots I => ?_)
  refine lv_dup hx hb dX14_init_24 rfl ?_
  refine lv_aload_n hx hb dX14_init_25 rfl (lv_at hl 1 rfl) ?_
  obtain ⟨σ_8, ev_7, hf⟩ := ob hf
  refine cm_I (σ' := σ_8) (rs := [.ref q_6a, .ref x0]) (rest := [.ref q_6a, .ref x0]) (As := [.ref x1]) X I (mX13_init hX ev_7) lvX14_24 hdX14_24 ⟨Nat.le_trans (Nat.le_of_ble_eq_true rfl) hR.1, Nat.le_trans (Nat.le_of_ble_eq_true rfl) hR.2⟩ rfl hl.1 rfl (Nat.le_of_ble_eq_true rfl) rfl dX14_init_26 (fun H locs cells slots I => ?_)
  obtain ⟨σ_9, eσ_9, hf⟩ := ob hf
  refine g_putI X I pfX14_27 rfl rfl eσ_9 dX14_init_29 (fun H locs I => ?_)
  cases os hf
  exact r_vret X I dX14_init_32
theorem mX14_init {E : EV} {l : Launch} {σ : St} {x0 : Nat} {x1 : Nat} {res : St} (hX : XK E) (hf : fX14_init E.2.2.2.1 σ x0 x1 = some res) : CM E l yX14_init (ws_ yX14_init cX14_init 2 none) 4 80 [.ref x0, .ref x1] σ none res := by
  refine CM.of hX.1 (by decide) rfl rfl (Nat.le_of_ble_eq_true rfl) ?_
  intro p e s m below meth c X I ls hl
  exact wX14_init_0 hX ⟨Nat.le_refl _, Nat.le_refl _⟩ X _ _ _ _ _ _ _ _ I hl hf
/-! SharedTaxis$Stop.<init>(IZ)V imp=True fuel=False kap=False rt=None thr=False -/
theorem pfX15_7 : ∀ q ∈ ([(13, 0)] : List (Nat × Nat)), PI RX15 7 .int q := List.forall_mem_cons.mpr ⟨⟨RX15, TX15, 2, tyX15, rfl, in_X15, by decide, q1817, rfl, tyX15_ok, nmX15, rfl, rfl⟩, fun _ h => by cases h⟩
theorem pfX15_13 : ∀ q ∈ ([(13, 1)] : List (Nat × Nat)), PI RX15 13 .boolean q := List.forall_mem_cons.mpr ⟨⟨RX15, TX15, 2, tyX15, rfl, in_X15, by decide, q1822, rfl, tyX15_ok, nmX15, rfl, rfl⟩, fun _ h => by cases h⟩
def fX15_init (σ : St) (x0 : Nat) (x1 : Int32) (x2 : Int32) : Option St := (pV σ x0 [(13, 0)] (.int x1)).bind fun σ_1 : St => if ¬ (x2 = 0 ∨ x2 = 1) then none else (pV σ_1 x0 [(13, 1)] (.int x2)).bind fun σ_2 : St => some σ_2
theorem wX15_init_0 {E : EV} {l : Launch} {p : Program} {e : Env} {s : State} {m : MethodId} {args : Array Value} {below : List Frame} {meth : Method} {c : Code} {R : Room} {res : St} (hX : XK E) (hR : 1 ≤ R.frames ∧ 20 ≤ R.locals) (X : MX E p s m args meth c cX15_init 3 none RX15 "<init>") : ∀ (x0 : Nat) (x1 : Int32) (x2 : Int32) (σ : St) (H : Heap) (locs : List Loc) (cells slots : Nat) (ls : Array Slot), WI E R s σ H locs cells slots → lv_has ls 3 [(0, .ref x0), (1, .int x1), (2, .int x2)] → fX15_init σ x0 x1 x2 = some res → W p l e R s m args below meth c H locs cells slots (MQ below (Qd E R.cells R.slots none res) args s R.cells R.slots (fr E)) (F0 m 0 ls []) := by
  intro x0 x1 x2 σ H locs cells slots ls I hl hf
  obtain ⟨⟨hx, hb, hml, hown, hts⟩, -⟩ := id X
  unfold fX15_init at hf
  refine lv_aload_n hx hb dX15_init_0 rfl (lv_at hl 0 rfl) ?_
  refine g_objInit X ⟨Nat.le_trans (Nat.le_of_ble_eq_true rfl) hR.1, Nat.le_trans (Nat.le_of_ble_eq_true rfl) hR.2⟩ q1816 hl.1 (Nat.le_of_ble_eq_true rfl) dX15_init_1 ?_
  refine lv_aload_n hx hb dX15_init_4 rfl (lv_at hl 0 rfl) ?_
  refine lv_iload_n hx hb dX15_init_5 rfl (lv_at hl 1 rfl) ?_
  obtain ⟨σ_1, eσ_1, hf⟩ := ob hf
  refine g_putI X I pfX15_7 rfl rfl eσ_1 dX15_init_6 (fun H locs I => ?_)
  refine lv_aload_n hx hb dX15_init_9 rfl (lv_at hl 0 rfl) ?_
  refine lv_iload_n hx hb dX15_init_10 rfl (lv_at hl 2 rfl) ?_
  by_cases d_11 : ¬ (x2 = 0 ∨ x2 = 1)
  · exact nomatch (ip d_11 hf)
  have hf := im d_11 hf
  have c_11 := Decidable.not_not.mp d_11
  obtain ⟨σ_2, eσ_2, hf⟩ := ob hf
  refine g_putI X I pfX15_13 (z_nar c_11) (z_fit c_11) eσ_2 dX15_init_11 (fun H locs I => ?_)
  cases os hf
  exact r_vret X I dX15_init_14
theorem mX15_init {E : EV} {l : Launch} {σ : St} {x0 : Nat} {x1 : Int32} {x2 : Int32} {res : St} (hX : XK E) (hf : fX15_init σ x0 x1 x2 = some res) : CM E l yX15_init (ws_ yX15_init cX15_init 3 none) 1 20 [.ref x0, .int x1, .int x2] σ none res := by
  refine CM.of hX.1 (by decide) rfl rfl (Nat.le_of_ble_eq_true rfl) ?_
  intro p e s m below meth c X I ls hl
  exact wX15_init_0 hX ⟨Nat.le_refl _, Nat.le_refl _⟩ X _ _ _ _ _ _ _ _ _ I hl hf
/-! SharedTaxis$Walk.goesOn()Z imp=False fuel=False kap=False rt=I thr=False -/
def fX13_goesOn (σ : St) (x0 : Nat) : Option Int32 := (gI σ x0 [(11, 3)]).bind fun v_1 : Int32 => (gR σ x0 [(11, 2)]).bind fun v_2 : Option Nat => (v_2).bind fun a_3 : Nat => (isC σ a_3 21).bind fun u_4 : Unit => (fJ2_size σ a_3).bind fun v_5 : Int32 => if v_5 ≤ v_1 then some (0 : Int32) else some (1 : Int32)
theorem wX13_goesOn_0 {E : EV} {l : Launch} {p : Program} {e : Env} {s : State} {m : MethodId} {args : Array Value} {below : List Frame} {meth : Method} {c : Code} {R : Room} {σ : St} {res : Int32} (hX : XK E) (hR : 1 ≤ R.frames ∧ 20 ≤ R.locals) (X : MX E p s m args meth c cX13_goesOn 1 (some .boolean) RX13 "goesOn") : ∀ (x0 : Nat) (H : Heap) (locs : List Loc) (cells slots : Nat) (ls : Array Slot), WI E R s σ H locs cells slots → lv_has ls 1 [(0, .ref x0)] → fX13_goesOn σ x0 = some res → W p l e R s m args below meth c H locs cells slots (MQ below (Qd E R.cells R.slots (some (.int res)) σ) args s R.cells R.slots (fr E)) (F0 m 0 ls []) := by
  intro x0 H locs cells slots ls I hl hf
  obtain ⟨⟨hx, hb, hml, hown, hts⟩, -⟩ := id X
  unfold fX13_goesOn at hf
  refine lv_aload_n hx hb dX13_goesOn_0 rfl (lv_at hl 0 rfl) ?_
  obtain ⟨v_1, ev_1, hf⟩ := ob hf
  refine g_get X I gfX13_27 (gI_in ev_1) dX13_goesOn_1 ?_
  refine lv_aload_n hx hb dX13_goesOn_4 rfl (lv_at hl 0 rfl) ?_
  obtain ⟨v_2, ev_2, hf⟩ := ob hf
  refine g_get X I gfX13_23 (gR_in ev_2) dX13_goesOn_5 ?_
  obtain ⟨a_3, ea_3, hga_3⟩ := ob hf
  have hla_3 := hl
  have Ia_3 := I
  subst ea_3
  have hf := hga_3
  have hl := hla_3
  have I := Ia_3
  obtain ⟨u_4, eu_4, hf⟩ := ob hf
  obtain ⟨v_5, ev_5, hf⟩ := ob hf
  refine cg_F (vw := (RJ2, TJ2, 3)) (ci := 21) (r := (some (.int v_5))) (σ' := σ) (rs := [.int v_5, .int v_1]) (rest := [.int v_1]) (As := []) hX X I eu_4 rfl (mJ2_size hX ev_5) lvX13_61_J2 hdX13_61_J2 ⟨Nat.le_trans (Nat.le_of_ble_eq_true rfl) hR.1, Nat.le_trans (Nat.le_of_ble_eq_true rfl) hR.2⟩ rfl hl.1 rfl (Nat.le_of_ble_eq_true rfl) rfl dX13_goesOn_8 (fun H locs cells slots I => ?_)
  refine lv_icmp_ge (tgt := 20) hx hb dX13_goesOn_13 (by decide) (fun c_13 => ?_) (fun c_13 => ?_)
  · have hf := ip c_13 hf
    refine lv_iconst (v := 0) hx hb dX13_goesOn_20 (by decide) ?_
    cases os hf
    exact r_zret X I (Or.inl rfl) dX13_goesOn_21
  · have hf := im c_13 hf
    refine lv_iconst (v := 1) hx hb dX13_goesOn_16 (by decide) ?_
    refine lv_goto (tgt := 21) hx hb dX13_goesOn_17 (by decide) ?_
    cases os hf
    exact r_zret X I (Or.inr rfl) dX13_goesOn_21
theorem mX13_goesOn {E : EV} {l : Launch} {σ : St} {x0 : Nat} {res : Int32} (hX : XK E) (hf : fX13_goesOn σ x0 = some res) : CM E l yX13_goesOn (ws_ yX13_goesOn cX13_goesOn 1 (some .boolean)) 1 20 [.ref x0] σ (some (.int res)) σ := by
  refine CM.of hX.1 (by decide) rfl rfl (Nat.le_of_ble_eq_true rfl) ?_
  intro p e s m below meth c X I ls hl
  exact wX13_goesOn_0 hX ⟨Nat.le_refl _, Nat.le_refl _⟩ X _ _ _ _ _ _ I hl hf
/-! SharedTaxis$Walk.minutesInAll()I imp=True fuel=True kap=False rt=I thr=False -/
theorem lvX13_162 : GoodIn lw_all (wsV RX13 162 RX13 yX13_goesOn (ws_ yX13_goesOn cX13_goesOn 1 (some .boolean))) := lw_V q1838 q1839 q1840 q149 q1841
theorem hdX13_162 : yX13_goesOn.cls = RX13 ∧ yX13_goesOn.cls ≠ "java/lang/invoke/MethodHandle" ∧ yX13_goesOn.cls ≠ "java/lang/invoke/VarHandle" ∧ (parseMethodDescriptor yX13_goesOn.desc).map (fun d => d.parameters.length) = some 0 := by decide +kernel
theorem lvX13_166 : GoodIn lw_all (wsV RX13 166 RX13 yX13_next (ws_ yX13_next cX13_next 2 none)) := lw_V q1842 q1722 q1723 q149 q1724
theorem hdX13_166 : yX13_next.cls = RX13 ∧ yX13_next.cls ≠ "java/lang/invoke/MethodHandle" ∧ yX13_next.cls ≠ "java/lang/invoke/VarHandle" ∧ (parseMethodDescriptor yX13_next.desc).map (fun d => d.parameters.length) = some 0 := by decide +kernel
def fX13_minutesInAll_2 (N : Nat) : Nat → Nat → Int32 → St → Option (Int32 × St)
  | 0, _, _, _ => none
  | n + 1, x0, x1, σ => (isC σ x0 11).bind fun u_1 : Unit => (fX13_goesOn σ x0).bind fun v_2 : Int32 => if v_2 = 0 then some (x1, σ) else (isC σ x0 11).bind fun u_4 : Unit => (fX13_next σ x0).bind fun σ_6 : St => (gI σ_6 x0 [(11, 9)]).bind fun v_7 : Int32 => lt (x1 + v_7) fun x1_8 : Int32 => fX13_minutesInAll_2 N n x0 x1_8 σ_6
def fX13_minutesInAll (N : Nat) (σ : St) (x0 : Nat) : Option (Int32 × St) := fX13_minutesInAll_2 N N x0 (0 : Int32) σ
theorem wX13_minutesInAll_2 {E : EV} {l : Launch} {p : Program} {e : Env} {s : State} {m : MethodId} {args : Array Value} {below : List Frame} {meth : Method} {c : Code} {R : Room} {res : (Int32 × St)} (hX : XK E) (hR : 4 ≤ R.frames ∧ 85 ≤ R.locals) (X : MX E p s m args meth c cX13_minutesInAll 2 (some .int) RX13 "minutesInAll") (N : Nat) : ∀ (n : Nat) (x0 : Nat) (x1 : Int32) (σ : St) (H : Heap) (locs : List Loc) (cells slots : Nat) (ls : Array Slot), WI E R s σ H locs cells slots → lv_has ls 2 [(0, .ref x0), (1, .int x1)] → fX13_minutesInAll_2 N n x0 x1 σ = some res → W p l e R s m args below meth c H locs cells slots (MQ below (Qd E R.cells R.slots (some (.int res.1)) res.2) args s R.cells R.slots (fr E)) (F0 m 2 ls []) := by
  intro n
  induction n with
  | zero => intro x0 x1 σ H locs cells slots ls I hl hf; exact nomatch (show none = some res from hf)
  | succ n ih =>
    intro x0 x1 σ H locs cells slots ls I hl hf
    obtain ⟨⟨hx, hb, hml, hown, hts⟩, -⟩ := id X
    rw [fX13_minutesInAll_2.eq_2] at hf
    refine lv_aload_n hx hb dX13_minutesInAll_2 rfl (lv_at hl 0 rfl) ?_
    obtain ⟨u_1, eu_1, hf⟩ := ob hf
    obtain ⟨v_2, ev_2, hf⟩ := ob hf
    refine cg_V (vw := (RX13, TX13, 17)) (ci := 11) (r := (some (.int v_2))) (σ' := σ) (rs := [.int v_2]) (rest := []) (As := []) X I eu_1 rfl (mX13_goesOn hX ev_2) lvX13_162 hdX13_162 ⟨Nat.le_trans (Nat.le_of_ble_eq_true rfl) hR.1, Nat.le_trans (Nat.le_of_ble_eq_true rfl) hR.2⟩ rfl hl.1 rfl (Nat.le_of_ble_eq_true rfl) rfl dX13_minutesInAll_3 (fun H locs cells slots I => ?_)
    refine lv_if_eq (tgt := 23) hx hb dX13_minutesInAll_6 (by decide) (fun c_6 => ?_) (fun c_6 => ?_)
    · have hf := ip c_6 hf
      refine lv_iload_n hx hb dX13_minutesInAll_23 rfl (lv_at hl 1 rfl) ?_
      cases os hf
      exact r_iret X I dX13_minutesInAll_24
    · have hf := im c_6 hf
      refine lv_aload_n hx hb dX13_minutesInAll_9 rfl (lv_at hl 0 rfl) ?_
      obtain ⟨u_4, eu_4, hf⟩ := ob hf
      obtain ⟨σ_6, ev_5, hf⟩ := ob hf
      refine cg_V (vw := (RX13, TX13, 17)) (ci := 11) (r := none) (σ' := σ_6) (rs := []) (rest := []) (As := []) X I eu_4 rfl (mX13_next hX ev_5) lvX13_166 hdX13_166 ⟨Nat.le_trans (Nat.le_of_ble_eq_true rfl) hR.1, Nat.le_trans (Nat.le_of_ble_eq_true rfl) hR.2⟩ rfl hl.1 rfl (Nat.le_of_ble_eq_true rfl) rfl dX13_minutesInAll_10 (fun H locs cells slots I => ?_)
      refine lv_iload_n hx hb dX13_minutesInAll_13 rfl (lv_at hl 1 rfl) ?_
      refine lv_aload_n hx hb dX13_minutesInAll_14 rfl (lv_at hl 0 rfl) ?_
      obtain ⟨v_7, ev_7, hf⟩ := ob hf
      refine g_get X I gfX13_111 (gI_in ev_7) dX13_minutesInAll_15 ?_
      refine lv_iadd hx hb dX13_minutesInAll_18 ?_
      obtain ⟨x1_8, ex1_8, hf⟩ := ol hf
      refine nm_i ex1_8 ?_
      refine lv_istore_n (lv' := [(1, .int x1_8), (0, .ref x0)]) hx hb dX13_minutesInAll_19 rfl hl (by decide) rfl (fun ls hl => ?_)
      refine lv_goto (tgt := 2) hx hb dX13_minutesInAll_20 (by decide) ?_
      exact ih x0 x1_8 σ_6 _ _ _ _ _ I (lv_sub hl [1, 0] rfl) hf
theorem wX13_minutesInAll_0 {E : EV} {l : Launch} {p : Program} {e : Env} {s : State} {m : MethodId} {args : Array Value} {below : List Frame} {meth : Method} {c : Code} {R : Room} {res : (Int32 × St)} (hX : XK E) (hR : 4 ≤ R.frames ∧ 85 ≤ R.locals) (X : MX E p s m args meth c cX13_minutesInAll 2 (some .int) RX13 "minutesInAll") (N : Nat) : ∀ (x0 : Nat) (σ : St) (H : Heap) (locs : List Loc) (cells slots : Nat) (ls : Array Slot), WI E R s σ H locs cells slots → lv_has ls 2 [(0, .ref x0)] → fX13_minutesInAll N σ x0 = some res → W p l e R s m args below meth c H locs cells slots (MQ below (Qd E R.cells R.slots (some (.int res.1)) res.2) args s R.cells R.slots (fr E)) (F0 m 0 ls []) := by
  intro x0 σ H locs cells slots ls I hl hf
  obtain ⟨⟨hx, hb, hml, hown, hts⟩, -⟩ := id X
  unfold fX13_minutesInAll at hf
  refine lv_iconst (v := 0) hx hb dX13_minutesInAll_0 (by decide) ?_
  refine lv_istore_n (lv' := [(1, .int (0 : Int32)), (0, .ref x0)]) hx hb dX13_minutesInAll_1 rfl hl (by decide) rfl (fun ls hl => ?_)
  exact wX13_minutesInAll_2 hX hR X N N x0 (0 : Int32) σ _ _ _ _ _ I (lv_sub hl [1, 0] rfl) hf
theorem mX13_minutesInAll {E : EV} {l : Launch} {N : Nat} {σ : St} {x0 : Nat} {res : (Int32 × St)} (hX : XK E) (hf : fX13_minutesInAll N σ x0 = some res) : CM E l yX13_minutesInAll (ws_ yX13_minutesInAll cX13_minutesInAll 2 (some .int)) 4 85 [.ref x0] σ (some (.int res.1)) res.2 := by
  refine CM.of hX.1 (by decide) rfl rfl (Nat.le_of_ble_eq_true rfl) ?_
  intro p e s m below meth c X I ls hl
  exact wX13_minutesInAll_0 hX ⟨Nat.le_refl _, Nat.le_refl _⟩ X N _ _ _ _ _ _ _ I hl hf
/-! java/util/ArrayList.clear()V imp=True fuel=True kap=False rt=None thr=False -/
def fJ2_clear_27 (N : Nat) : Nat → Option Nat → Int32 → Int32 → St → Option St
  | 0, _, _, _, _ => none
  | n + 1, x1, x2, x3, σ => if x2 ≤ x3 then some σ else (x1).bind fun a_1 : Nat => (sR σ a_1 3 x3 none).bind fun σ_2 : St => lt (x3 + 1) fun x3_3 : Int32 => fJ2_clear_27 N n (some a_1) x2 x3_3 σ_2
def fJ2_clear (N : Nat) (σ : St) (x0 : Nat) : Option St := (gI σ x0 [(21, 0)]).bind fun v_4 : Int32 => (pV σ x0 [(21, 0)] (.int (v_4 + (1 : Int32)))).bind fun σ_5 : St => (gR σ_5 x0 [(21, 1)]).bind fun v_6 : Option Nat => (gI σ_5 x0 [(21, 2)]).bind fun v_7 : Int32 => (pV σ_5 x0 [(21, 2)] (.int (0 : Int32))).bind fun σ_8 : St => fJ2_clear_27 N N v_6 v_7 (0 : Int32) σ_8
theorem wJ2_clear_27 {E : EV} {l : Launch} {p : Program} {e : Env} {s : State} {m : MethodId} {args : Array Value} {below : List Frame} {meth : Method} {c : Code} {R : Room} {res : St} (hX : XK E) (hR : 0 ≤ R.frames ∧ 0 ≤ R.locals) (X : MX E p s m args meth c cJ2_clear 4 none RJ2 "clear") (N : Nat) : ∀ (n : Nat) (x1 : Option Nat) (x2 : Int32) (x3 : Int32) (σ : St) (H : Heap) (locs : List Loc) (cells slots : Nat) (ls : Array Slot), WI E R s σ H locs cells slots → lv_has ls 4 [(1, va_rf x1), (2, .int x2), (3, .int x3)] → fJ2_clear_27 N n x1 x2 x3 σ = some res → W p l e R s m args below meth c H locs cells slots (MQ below (Qd E R.cells R.slots none res) args s R.cells R.slots (fr E)) (F0 m 27 ls []) := by
  intro n
  induction n with
  | zero => intro x1 x2 x3 σ H locs cells slots ls I hl hf; exact nomatch (show none = some res from hf)
  | succ n ih =>
    intro x1 x2 x3 σ H locs cells slots ls I hl hf
    obtain ⟨⟨hx, hb, hml, hown, hts⟩, -⟩ := id X
    rw [fJ2_clear_27.eq_2] at hf
    refine lv_iload_n hx hb dJ2_clear_27 rfl (lv_at hl 2 rfl) ?_
    refine lv_iload_n hx hb dJ2_clear_28 rfl (lv_at hl 1 rfl) ?_
    refine lv_icmp_ge (tgt := 42) hx hb dJ2_clear_29 (by decide) (fun c_29 => ?_) (fun c_29 => ?_)
    · have hf := ip c_29 hf
      cases os hf
      exact r_vret X I dJ2_clear_42
    · have hf := im c_29 hf
      refine lo_aload_n (x := x1) hx hb dJ2_clear_32 rfl (lv_at hl 0 rfl) ?_
      refine lv_iload_n hx hb dJ2_clear_33 rfl (lv_at hl 2 rfl) ?_
      refine lv_null hx hb dJ2_clear_34 ?_
      obtain ⟨a_1, ea_1, hga_1⟩ := ob hf
      have hla_1 := hl
      have Ia_1 := I
      subst ea_1
      have hf := hga_1
      have hl := hla_1
      have I := Ia_1
      obtain ⟨σ_2, eσ_2, hf⟩ := ob hf
      refine g_aast (v := none) hX X I (by decide) eσ_2 dJ2_clear_35 (fun H locs I => ?_)
      obtain ⟨x3_3, ex3_3, hf⟩ := ol hf
      refine lv_iinc (v := x3_3) (lv' := [(3, .int x3_3), (1, .ref a_1), (2, .int x2)]) hx hb dJ2_clear_36 hl (k := 2) rfl ex3_3 (by decide) rfl (fun ls hl => ?_)
      refine lv_goto (tgt := 27) hx hb dJ2_clear_39 (by decide) ?_
      exact ih (some a_1) x2 x3_3 σ_2 _ _ _ _ _ I (lv_sub hl [1, 2, 0] rfl) hf
theorem wJ2_clear_0 {E : EV} {l : Launch} {p : Program} {e : Env} {s : State} {m : MethodId} {args : Array Value} {below : List Frame} {meth : Method} {c : Code} {R : Room} {res : St} (hX : XK E) (hR : 0 ≤ R.frames ∧ 0 ≤ R.locals) (X : MX E p s m args meth c cJ2_clear 4 none RJ2 "clear") (N : Nat) : ∀ (x0 : Nat) (σ : St) (H : Heap) (locs : List Loc) (cells slots : Nat) (ls : Array Slot), WI E R s σ H locs cells slots → lv_has ls 4 [(0, .ref x0)] → fJ2_clear N σ x0 = some res → W p l e R s m args below meth c H locs cells slots (MQ below (Qd E R.cells R.slots none res) args s R.cells R.slots (fr E)) (F0 m 0 ls []) := by
  intro x0 σ H locs cells slots ls I hl hf
  obtain ⟨⟨hx, hb, hml, hown, hts⟩, -⟩ := id X
  unfold fJ2_clear at hf
  refine lv_aload_n hx hb dJ2_clear_0 rfl (lv_at hl 0 rfl) ?_
  refine lv_dup hx hb dJ2_clear_1 rfl ?_
  obtain ⟨v_4, ev_4, hf⟩ := ob hf
  refine g_get X I gfJ2_63 (gI_in ev_4) dJ2_clear_2 ?_
  refine lv_iconst (v := 1) hx hb dJ2_clear_5 (by decide) ?_
  refine lv_iadd hx hb dJ2_clear_6 ?_
  obtain ⟨σ_5, eσ_5, hf⟩ := ob hf
  refine g_put X I pfJ2_63 rfl rfl eσ_5 dJ2_clear_7 (fun H locs I => ?_)
  refine lv_aload_n hx hb dJ2_clear_10 rfl (lv_at hl 0 rfl) ?_
  obtain ⟨v_6, ev_6, hf⟩ := ob hf
  refine g_get X I gfJ2_9 (gR_in ev_6) dJ2_clear_11 ?_
  refine lo_astore_n (x := v_6) (lv' := [(1, va_rf v_6), (0, .ref x0)]) hx hb dJ2_clear_14 rfl hl (by decide) rfl (fun ls hl => ?_)
  refine lv_aload_n hx hb dJ2_clear_15 rfl (lv_at hl 1 rfl) ?_
  obtain ⟨v_7, ev_7, hf⟩ := ob hf
  refine g_get X I gfJ2_48 (gI_in ev_7) dJ2_clear_16 ?_
  refine lv_istore_n (lv' := [(2, .int v_7), (1, va_rf v_6), (0, .ref x0)]) hx hb dJ2_clear_19 rfl hl (by decide) (by rcases v_6 with _ | _ <;> exact rfl) (fun ls hl => ?_)
  refine lv_aload_n hx hb dJ2_clear_20 rfl (lv_at hl 2 rfl) ?_
  refine lv_iconst (v := 0) hx hb dJ2_clear_21 (by decide) ?_
  refine lv_dup_x1 hx hb dJ2_clear_22 rfl rfl ?_
  obtain ⟨σ_8, eσ_8, hf⟩ := ob hf
  refine g_put X I pfJ2_48 rfl rfl eσ_8 dJ2_clear_23 (fun H locs I => ?_)
  refine lv_istore_n (lv' := [(3, .int (0 : Int32)), (2, .int v_7), (1, va_rf v_6), (0, .ref x0)]) hx hb dJ2_clear_26 rfl hl (by decide) rfl (fun ls hl => ?_)
  exact wJ2_clear_27 hX hR X N N v_6 v_7 (0 : Int32) σ_8 _ _ _ _ _ I (lv_sub hl [2, 1, 0] rfl) hf
theorem mJ2_clear {E : EV} {l : Launch} {N : Nat} {σ : St} {x0 : Nat} {res : St} (hX : XK E) (hf : fJ2_clear N σ x0 = some res) : CM E l yJ2_clear (ws_ yJ2_clear cJ2_clear 4 none) 0 0 [.ref x0] σ none res := by
  refine CM.of hX.1 (by decide) rfl rfl (Nat.le_of_ble_eq_true rfl) ?_
  intro p e s m below meth c X I ls hl
  exact wJ2_clear_0 hX ⟨Nat.le_refl _, Nat.le_refl _⟩ X N _ _ _ _ _ _ _ I hl hf
/-! SharedTaxis$Search.add(LSharedTaxis$Stop;I)V imp=True fuel=False kap=True rt=None thr=False -/
theorem gfX14_12 : ∀ q ∈ ([(12, 2)] : List (Nat × Nat)), GF RX14 12 q := List.forall_mem_cons.mpr ⟨⟨RX14, TX14, 8, _, rfl, in_X14, by decide, q1777, Or.inl rfl⟩, fun _ h => by cases h⟩
theorem lvX14_41_J2 : GoodIn lw_all (va_wsF RX14 41 RJ2 ⟨"java/util/List", "size", "()I"⟩ yJ2_size (ws_ yJ2_size cJ2_size 1 (some .int))) ∧ (RJ2, ⟨"java/util/List", "size", "()I"⟩, yJ2_size) ∈ FWL := ⟨lw_good (List.forall_mem_cons.mpr ⟨q1810, List.forall_mem_cons.mpr ⟨q381, List.forall_mem_cons.mpr ⟨q383, List.forall_mem_cons.mpr ⟨q118, fun w h => (lw_meth q385 w h).1⟩⟩⟩⟩), List.mem_of_getElem? (i := 16) rfl⟩
theorem hdX14_41_J2 : (⟨"java/util/List", "size", "()I"⟩ : MethodName).cls ≠ "java/lang/invoke/MethodHandle" ∧ (⟨"java/util/List", "size", "()I"⟩ : MethodName).cls ≠ "java/lang/invoke/VarHandle" ∧ (parseMethodDescriptor (⟨"java/util/List", "size", "()I"⟩ : MethodName).desc).map (fun d => d.parameters.length) = some 0 := by decide +kernel
theorem lvX14_55_J2 : GoodIn lw_all (va_wsF RX14 55 RJ2 ⟨"java/util/List", "add", "(Ljava/lang/Object;)Z"⟩ yJ2_add (ws_ yJ2_add cJ2_add 2 (some .boolean))) ∧ (RJ2, ⟨"java/util/List", "add", "(Ljava/lang/Object;)Z"⟩, yJ2_add) ∈ FWL := ⟨lw_good (List.forall_mem_cons.mpr ⟨q1861, List.forall_mem_cons.mpr ⟨q1078, List.forall_mem_cons.mpr ⟨q1080, List.forall_mem_cons.mpr ⟨q118, fun w h => (lw_meth q1082 w h).1⟩⟩⟩⟩), List.mem_of_getElem? (i := 7) rfl⟩
theorem hdX14_55_J2 : (⟨"java/util/List", "add", "(Ljava/lang/Object;)Z"⟩ : MethodName).cls ≠ "java/lang/invoke/MethodHandle" ∧ (⟨"java/util/List", "add", "(Ljava/lang/Object;)Z"⟩ : MethodName).cls ≠ "java/lang/invoke/VarHandle" ∧ (parseMethodDescriptor (⟨"java/util/List", "add", "(Ljava/lang/Object;)Z"⟩ : MethodName).desc).map (fun d => d.parameters.length) = some 1 := by decide +kernel
def fX14_add (κ : Nat → Nat) (σ : St) (x0 : Nat) (x1 : Nat) (x2 : Int32) : Option St := (gR σ x0 [(12, 2)]).bind fun v_1 : Option Nat => (v_1).bind fun a_2 : Nat => (isC σ a_2 21).bind fun u_3 : Unit => (fJ2_size σ a_2).bind fun v_4 : Int32 => if v_4 = x2 then (gR σ x0 [(12, 2)]).bind fun v_6 : Option Nat => (v_6).bind fun a_7 : Nat => (isC σ a_7 21).bind fun u_8 : Unit => (fJ2_add κ σ a_7 x1).bind fun (v_9, σ_10) => some σ_10 else some σ
theorem wX14_add_0 {E : EV} {l : Launch} {p : Program} {e : Env} {s : State} {m : MethodId} {args : Array Value} {below : List Frame} {meth : Method} {c : Code} {R : Room} {res : St} (hX : XK E) (hR : 7 ≤ R.frames ∧ 171 ≤ R.locals) (X : MX E p s m args meth c cX14_add 3 none RX14 "add") : ∀ (x0 : Nat) (x1 : Nat) (x2 : Int32) (σ : St) (H : Heap) (locs : List Loc) (cells slots : Nat) (ls : Array Slot), WI E R s σ H locs cells slots → lv_has ls 3 [(0, .ref x0), (1, .ref x1), (2, .int x2)] → fX14_add E.2.2.2.1 σ x0 x1 x2 = some res → W p l e R s m args below meth c H locs cells slots (MQ below (Qd E R.cells R.slots none res) args s R.cells R.slots (fr E)) (F0 m 0 ls []) := by
  intro x0 x1 x2 σ H locs cells slots ls I hl hf
  obtain ⟨⟨hx, hb, hml, hown, hts⟩, -⟩ := id X
  unfold fX14_add at hf
  refine lv_aload_n hx hb dX14_add_0 rfl (lv_at hl 0 rfl) ?_
  obtain ⟨v_1, ev_1, hf⟩ := ob hf
  refine g_get X I gfX14_12 (gR_in ev_1) dX14_add_1 ?_
  obtain ⟨a_2, ea_2, hga_2⟩ := ob hf
  have hla_2 := hl
  have Ia_2 := I
  subst ea_2
  have hf := hga_2
  have hl := hla_2
  have I := Ia_2
  obtain ⟨u_3, eu_3, hf⟩ := ob hf
  obtain ⟨v_4, ev_4, hf⟩ := ob hf
  refine cg_F (vw := (RJ2, TJ2, 3)) (ci := 21) (r := (some (.int v_4))) (σ' := σ) (rs := [.int v_4]) (rest := []) (As := []) hX X I eu_3 rfl (mJ2_size hX ev_4) lvX14_41_J2 hdX14_41_J2 ⟨Nat.le_trans (Nat.le_of_ble_eq_true rfl) hR.1, Nat.le_trans (Nat.le_of_ble_eq_true rfl) hR.2⟩ rfl hl.1 rfl (Nat.le_of_ble_eq_true rfl) rfl dX14_add_4 (fun H locs cells slots I => ?_)
  refine lv_iload_n hx hb dX14_add_9 rfl (lv_at hl 2 rfl) ?_
  refine lv_icmp_ne (tgt := 24) hx hb dX14_add_10 (by decide) (fun c_10 => ?_) (fun c_10 => ?_)
  · have hf := im c_10 hf
    cases os hf
    exact r_vret X I dX14_add_24
  · have hf := ip c_10 hf
    refine lv_aload_n hx hb dX14_add_13 rfl (lv_at hl 0 rfl) ?_
    obtain ⟨v_6, ev_6, hf⟩ := ob hf
    refine g_get X I gfX14_12 (gR_in ev_6) dX14_add_14 ?_
    refine lv_aload_n hx hb dX14_add_17 rfl (lv_at hl 1 rfl) ?_
    obtain ⟨a_7, ea_7, hga_7⟩ := ob hf
    have hla_7 := hl
    have Ia_7 := I
    subst ea_7
    have hf := hga_7
    have hl := hla_7
    have I := Ia_7
    obtain ⟨u_8, eu_8, hf⟩ := ob hf
    obtain ⟨⟨v_9, σ_10⟩, ev_9, hf⟩ := ob hf
    refine cg_F (vw := (RJ2, TJ2, 3)) (ci := 21) (r := (some (.int v_9))) (σ' := σ_10) (rs := [.int v_9]) (rest := []) (As := [.ref x1]) hX X I eu_8 rfl (mJ2_add hX ev_9) lvX14_55_J2 hdX14_55_J2 ⟨Nat.le_trans (Nat.le_of_ble_eq_true rfl) hR.1, Nat.le_trans (Nat.le_of_ble_eq_true rfl) hR.2⟩ rfl hl.1 rfl (Nat.le_of_ble_eq_true rfl) rfl dX14_add_18 (fun H locs cells slots I => ?_)
    refine lv_pop hx hb dX14_add_23 rfl ?_
    cases os hf
    exact r_vret X I dX14_add_24
theorem mX14_add {E : EV} {l : Launch} {σ : St} {x0 : Nat} {x1 : Nat} {x2 : Int32} {res : St} (hX : XK E) (hf : fX14_add E.2.2.2.1 σ x0 x1 x2 = some res) : CM E l yX14_add (ws_ yX14_add cX14_add 3 none) 7 171 [.ref x0, .ref x1, .int x2] σ none res := by
  refine CM.of hX.1 (by decide) rfl rfl (Nat.le_of_ble_eq_true rfl) ?_
  intro p e s m below meth c X I ls hl
  exact wX14_add_0 hX ⟨Nat.le_refl _, Nat.le_refl _⟩ X _ _ _ _ _ _ _ _ _ I hl hf
/-! SharedTaxis$Search.lay(LSharedTaxis$Taxi;LSharedTaxis$Stop;LSharedTaxis$Stop;II)V imp=True fuel=True kap=True rt=None thr=False -/
theorem gfX14_36 : ∀ q ∈ ([(10, 7)] : List (Nat × Nat)), GN RX14 36 q := List.forall_mem_cons.mpr ⟨⟨RX12, TX12, 15, _, rfl, in_X12, by decide, q932⟩, fun _ h => by cases h⟩
theorem lvX14_45 : GoodIn lw_all (wsV RX14 45 RX14 yX14_add (ws_ yX14_add cX14_add 3 none)) := lw_V q1856 q1858 qs22 q150 q1859
theorem hdX14_45 : yX14_add.cls = RX14 ∧ yX14_add.cls ≠ "java/lang/invoke/MethodHandle" ∧ yX14_add.cls ≠ "java/lang/invoke/VarHandle" ∧ (parseMethodDescriptor yX14_add.desc).map (fun d => d.parameters.length) = some 2 := by decide +kernel
theorem lvX14_49_J2 : GoodIn lw_all (va_wsF RX14 49 RJ2 ⟨"java/util/List", "get", "(I)Ljava/lang/Object;"⟩ yJ2_get (ws_ yJ2_get cJ2_get 2 (some (.object "java/lang/Object")))) ∧ (RJ2, ⟨"java/util/List", "get", "(I)Ljava/lang/Object;"⟩, yJ2_get) ∈ FWL := ⟨lw_good (List.forall_mem_cons.mpr ⟨q1863, List.forall_mem_cons.mpr ⟨q489, List.forall_mem_cons.mpr ⟨q491, List.forall_mem_cons.mpr ⟨q118, fun w h => (lw_meth q493 w h).1⟩⟩⟩⟩), List.mem_of_getElem? (i := 10) rfl⟩
theorem hdX14_49_J2 : (⟨"java/util/List", "get", "(I)Ljava/lang/Object;"⟩ : MethodName).cls ≠ "java/lang/invoke/MethodHandle" ∧ (⟨"java/util/List", "get", "(I)Ljava/lang/Object;"⟩ : MethodName).cls ≠ "java/lang/invoke/VarHandle" ∧ (parseMethodDescriptor (⟨"java/util/List", "get", "(I)Ljava/lang/Object;"⟩ : MethodName).desc).map (fun d => d.parameters.length) = some 1 := by decide +kernel
theorem lvX14_31_J2 : GoodIn lw_all (va_wsF RX14 31 RJ2 ⟨"java/util/List", "clear", "()V"⟩ yJ2_clear (ws_ yJ2_clear cJ2_clear 4 none)) ∧ (RJ2, ⟨"java/util/List", "clear", "()V"⟩, yJ2_clear) ∈ FWL := ⟨lw_good (List.forall_mem_cons.mpr ⟨q1848, List.forall_mem_cons.mpr ⟨q1851, List.forall_mem_cons.mpr ⟨q1853, List.forall_mem_cons.mpr ⟨q118, fun w h => (lw_meth q1855 w h).1⟩⟩⟩⟩), List.mem_of_getElem? (i := 9) rfl⟩
theorem hdX14_31_J2 : (⟨"java/util/List", "clear", "()V"⟩ : MethodName).cls ≠ "java/lang/invoke/MethodHandle" ∧ (⟨"java/util/List", "clear", "()V"⟩ : MethodName).cls ≠ "java/lang/invoke/VarHandle" ∧ (parseMethodDescriptor (⟨"java/util/List", "clear", "()V"⟩ : MethodName).desc).map (fun d => d.parameters.length) = some 0 := by decide +kernel
def fX14_lay_12 (N : Nat) (κ : Nat → Nat) : Nat → Nat → Nat → Nat → Nat → Int32 → Int32 → Int32 → St → Option St
  | 0, _, _, _, _, _, _, _, _ => none
  | n + 1, x0, x1, x2, x3, x4, x5, x6, σ => (gR σ x1 [(10, 7)]).bind fun v_1 : Option Nat => (v_1).bind fun a_2 : Nat => (isC σ a_2 21).bind fun u_3 : Unit => (fJ2_size σ a_2).bind fun v_4 : Int32 => if v_4 ≤ x6 then (isC σ x0 12).bind fun u_6 : Unit => (fX14_add κ σ x0 x2 x4).bind fun σ_8 : St => (isC σ_8 x0 12).bind fun u_9 : Unit => (fX14_add κ σ_8 x0 x3 x5).bind fun σ_11 : St => (isC σ_11 x0 12).bind fun u_12 : Unit => (fX14_add κ σ_11 x0 x3 x5).bind fun σ_14 : St => some σ_14 else (isC σ x0 12).bind fun u_15 : Unit => (fX14_add κ σ x0 x2 x4).bind fun σ_17 : St => (isC σ_17 x0 12).bind fun u_18 : Unit => (fX14_add κ σ_17 x0 x3 x5).bind fun σ_20 : St => (gR σ_20 x0 [(12, 2)]).bind fun v_21 : Option Nat => (gR σ_20 x1 [(10, 7)]).bind fun v_22 : Option Nat => (v_22).bind fun a_23 : Nat => (isC σ_20 a_23 21).bind fun u_24 : Unit => (fJ2_get σ_20 a_23 x6).bind fun v_25 : Option Nat => (v_25).bind fun a_27 : Nat => (isC σ_20 a_27 13).bind fun u_28 : Unit => (v_21).bind fun a_29 : Nat => (isC σ_20 a_29 21).bind fun u_30 : Unit => (fJ2_add κ σ_20 a_29 a_27).bind fun (v_31, σ_32) => lt (x6 + 1) fun x6_33 : Int32 => fX14_lay_12 N κ n x0 x1 x2 x3 x4 x5 x6_33 σ_32
def fX14_lay (N : Nat) (κ : Nat → Nat) (σ : St) (x0 : Nat) (x1 : Nat) (x2 : Nat) (x3 : Nat) (x4 : Int32) (x5 : Int32) : Option St := (gR σ x0 [(12, 2)]).bind fun v_34 : Option Nat => (v_34).bind fun a_35 : Nat => (isC σ a_35 21).bind fun u_36 : Unit => (fJ2_clear N σ a_35).bind fun σ_38 : St => fX14_lay_12 N κ N x0 x1 x2 x3 x4 x5 (0 : Int32) σ_38
theorem wX14_lay_12 {E : EV} {l : Launch} {p : Program} {e : Env} {s : State} {m : MethodId} {args : Array Value} {below : List Frame} {meth : Method} {c : Code} {R : Room} {res : St} (hX : XK E) (hR : 8 ≤ R.frames ∧ 193 ≤ R.locals) (X : MX E p s m args meth c cX14_lay 7 none RX14 "lay") (N : Nat) : ∀ (n : Nat) (x0 : Nat) (x1 : Nat) (x2 : Nat) (x3 : Nat) (x4 : Int32) (x5 : Int32) (x6 : Int32) (σ : St) (H : Heap) (locs : List Loc) (cells slots : Nat) (ls : Array Slot), WI E R s σ H locs cells slots → lv_has ls 7 [(0, .ref x0), (1, .ref x1), (2, .ref x2), (3, .ref x3), (4, .int x4), (5, .int x5), (6, .int x6)] → fX14_lay_12 N E.2.2.2.1 n x0 x1 x2 x3 x4 x5 x6 σ = some res → W p l e R s m args below meth c H locs cells slots (MQ below (Qd E R.cells R.slots none res) args s R.cells R.slots (fr E)) (F0 m 12 ls []) := by
  intro n
  induction n with
  | zero => intro x0 x1 x2 x3 x4 x5 x6 σ H locs cells slots ls I hl hf; exact nomatch (show none = some res from hf)
  | succ n ih =>
    intro x0 x1 x2 x3 x4 x5 x6 σ H locs cells slots ls I hl hf
    obtain ⟨⟨hx, hb, hml, hown, hts⟩, -⟩ := id X
    rw [fX14_lay_12.eq_2] at hf
    refine lv_iload hx hb dX14_lay_12 (lv_at hl 6 rfl) ?_
    refine lv_aload_n hx hb dX14_lay_14 rfl (lv_at hl 1 rfl) ?_
    obtain ⟨v_1, ev_1, hf⟩ := ob hf
    refine g_getN hX X I gfX14_36 (gR_in ev_1) dX14_lay_15 ?_
    obtain ⟨a_2, ea_2, hga_2⟩ := ob hf
    have hla_2 := hl
    have Ia_2 := I
    subst ea_2
    have hf := hga_2
    have hl := hla_2
    have I := Ia_2
    obtain ⟨u_3, eu_3, hf⟩ := ob hf
    obtain ⟨v_4, ev_4, hf⟩ := ob hf
    refine cg_F (vw := (RJ2, TJ2, 3)) (ci := 21) (r := (some (.int v_4))) (σ' := σ) (rs := [.int v_4, .int x6]) (rest := [.int x6]) (As := []) hX X I eu_3 rfl (mJ2_size hX ev_4) lvX14_41_J2 hdX14_41_J2 ⟨Nat.le_trans (Nat.le_of_ble_eq_true rfl) hR.1, Nat.le_trans (Nat.le_of_ble_eq_true rfl) hR.2⟩ rfl hl.1 rfl (Nat.le_of_ble_eq_true rfl) rfl dX14_lay_18 (fun H locs cells slots I => ?_)
    refine lv_icmp_ge (tgt := 70) hx hb dX14_lay_23 (by decide) (fun c_23 => ?_) (fun c_23 => ?_)
    · have hf := ip c_23 hf
      refine lv_aload_n hx hb dX14_lay_70 rfl (lv_at hl 0 rfl) ?_
      refine lv_aload_n hx hb dX14_lay_71 rfl (lv_at hl 2 rfl) ?_
      refine lv_iload hx hb dX14_lay_72 (lv_at hl 4 rfl) ?_
      obtain ⟨u_6, eu_6, hf⟩ := ob hf
      obtain ⟨σ_8, ev_7, hf⟩ := ob hf
      refine cg_V (vw := (RX14, TX14, 8)) (ci := 12) (r := none) (σ' := σ_8) (rs := []) (rest := []) (As := [.ref x2, .int x4]) X I eu_6 rfl (mX14_add hX ev_7) lvX14_45 hdX14_45 ⟨Nat.le_trans (Nat.le_of_ble_eq_true rfl) hR.1, Nat.le_trans (Nat.le_of_ble_eq_true rfl) hR.2⟩ rfl hl.1 rfl (Nat.le_of_ble_eq_true rfl) rfl dX14_lay_74 (fun H locs cells slots I => ?_)
      refine lv_aload_n hx hb dX14_lay_77 rfl (lv_at hl 0 rfl) ?_
      refine lv_aload_n hx hb dX14_lay_78 rfl (lv_at hl 3 rfl) ?_
      refine lv_iload hx hb dX14_lay_79 (lv_at hl 5 rfl) ?_
      obtain ⟨u_9, eu_9, hf⟩ := ob hf
      obtain ⟨σ_11, ev_10, hf⟩ := ob hf
      refine cg_V (vw := (RX14, TX14, 8)) (ci := 12) (r := none) (σ' := σ_11) (rs := []) (rest := []) (As := [.ref x3, .int x5]) X I eu_9 rfl (mX14_add hX ev_10) lvX14_45 hdX14_45 ⟨Nat.le_trans (Nat.le_of_ble_eq_true rfl) hR.1, Nat.le_trans (Nat.le_of_ble_eq_true rfl) hR.2⟩ rfl hl.1 rfl (Nat.le_of_ble_eq_true rfl) rfl dX14_lay_81 (fun H locs cells slots I => ?_)
      refine lv_aload_n hx hb dX14_lay_84 rfl (lv_at hl 0 rfl) ?_
      refine lv_aload_n hx hb dX14_lay_85 rfl (lv_at hl 3 rfl) ?_
      refine lv_iload hx hb dX14_lay_86 (lv_at hl 5 rfl) ?_
      obtain ⟨u_12, eu_12, hf⟩ := ob hf
      obtain ⟨σ_14, ev_13, hf⟩ := ob hf
      refine cg_V (vw := (RX14, TX14, 8)) (ci := 12) (r := none) (σ' := σ_14) (rs := []) (rest := []) (As := [.ref x3, .int x5]) X I eu_12 rfl (mX14_add hX ev_13) lvX14_45 hdX14_45 ⟨Nat.le_trans (Nat.le_of_ble_eq_true rfl) hR.1, Nat.le_trans (Nat.le_of_ble_eq_true rfl) hR.2⟩ rfl hl.1 rfl (Nat.le_of_ble_eq_true rfl) rfl dX14_lay_88 (fun H locs cells slots I => ?_)
      cases os hf
      exact r_vret X I dX14_lay_91
    · have hf := im c_23 hf
      refine lv_aload_n hx hb dX14_lay_26 rfl (lv_at hl 0 rfl) ?_
      refine lv_aload_n hx hb dX14_lay_27 rfl (lv_at hl 2 rfl) ?_
      refine lv_iload hx hb dX14_lay_28 (lv_at hl 4 rfl) ?_
      obtain ⟨u_15, eu_15, hf⟩ := ob hf
      obtain ⟨σ_17, ev_16, hf⟩ := ob hf
      refine cg_V (vw := (RX14, TX14, 8)) (ci := 12) (r := none) (σ' := σ_17) (rs := []) (rest := []) (As := [.ref x2, .int x4]) X I eu_15 rfl (mX14_add hX ev_16) lvX14_45 hdX14_45 ⟨Nat.le_trans (Nat.le_of_ble_eq_true rfl) hR.1, Nat.le_trans (Nat.le_of_ble_eq_true rfl) hR.2⟩ rfl hl.1 rfl (Nat.le_of_ble_eq_true rfl) rfl dX14_lay_30 (fun H locs cells slots I => ?_)
      refine lv_aload_n hx hb dX14_lay_33 rfl (lv_at hl 0 rfl) ?_
      refine lv_aload_n hx hb dX14_lay_34 rfl (lv_at hl 3 rfl) ?_
      refine lv_iload hx hb dX14_lay_35 (lv_at hl 5 rfl) ?_
      obtain ⟨u_18, eu_18, hf⟩ := ob hf
      obtain ⟨σ_20, ev_19, hf⟩ := ob hf
      refine cg_V (vw := (RX14, TX14, 8)) (ci := 12) (r := none) (σ' := σ_20) (rs := []) (rest := []) (As := [.ref x3, .int x5]) X I eu_18 rfl (mX14_add hX ev_19) lvX14_45 hdX14_45 ⟨Nat.le_trans (Nat.le_of_ble_eq_true rfl) hR.1, Nat.le_trans (Nat.le_of_ble_eq_true rfl) hR.2⟩ rfl hl.1 rfl (Nat.le_of_ble_eq_true rfl) rfl dX14_lay_37 (fun H locs cells slots I => ?_)
      refine lv_aload_n hx hb dX14_lay_40 rfl (lv_at hl 0 rfl) ?_
      obtain ⟨v_21, ev_21, hf⟩ := ob hf
      refine g_get X I gfX14_12 (gR_in ev_21) dX14_lay_41 ?_
      refine lv_aload_n hx hb dX14_lay_44 rfl (lv_at hl 1 rfl) ?_
      obtain ⟨v_22, ev_22, hf⟩ := ob hf
      refine g_getN hX X I gfX14_36 (gR_in ev_22) dX14_lay_45 ?_
      refine lv_iload hx hb dX14_lay_48 (lv_at hl 6 rfl) ?_
      obtain ⟨a_23, ea_23, hga_23⟩ := ob hf
      have hla_23 := hl
      have Ia_23 := I
      subst ea_23
      have hf := hga_23
      have hl := hla_23
      have I := Ia_23
      obtain ⟨u_24, eu_24, hf⟩ := ob hf
      obtain ⟨v_25, ev_25, hf⟩ := ob hf
      refine cg_F (vw := (RJ2, TJ2, 3)) (ci := 21) (r := (some (va_rf v_25))) (σ' := σ_20) (rs := [va_rf v_25, va_rf v_21]) (rest := [va_rf v_21]) (As := [.int x6]) hX X I eu_24 rfl (mJ2_get hX ev_25) lvX14_49_J2 hdX14_49_J2 ⟨Nat.le_trans (Nat.le_of_ble_eq_true rfl) hR.1, Nat.le_trans (Nat.le_of_ble_eq_true rfl) hR.2⟩ rfl hl.1 rfl (by rcases v_21 with _ | _ <;> exact (Nat.le_of_ble_eq_true rfl)) rfl dX14_lay_50 (fun H locs cells slots I => ?_)
      obtain ⟨a_27, ea_27, hga_27⟩ := ob hf
      have hla_27 := hl
      have Ia_27 := I
      subst ea_27
      have hf := hga_27
      have hl := hla_27
      have I := Ia_27
      obtain ⟨u_28, eu_28, hf⟩ := ob hf
      refine g_cast (vw := (RX15, TX15, 2)) X I rfl q1811 eu_28 dX14_lay_55 ?_
      obtain ⟨a_29, ea_29, hga_29⟩ := ob hf
      have hla_29 := hl
      have Ia_29 := I
      subst ea_29
      have hf := hga_29
      have hl := hla_29
      have I := Ia_29
      obtain ⟨u_30, eu_30, hf⟩ := ob hf
      obtain ⟨⟨v_31, σ_32⟩, ev_31, hf⟩ := ob hf
      refine cg_F (vw := (RJ2, TJ2, 3)) (ci := 21) (r := (some (.int v_31))) (σ' := σ_32) (rs := [.int v_31]) (rest := []) (As := [.ref a_27]) hX X I eu_30 rfl (mJ2_add hX ev_31) lvX14_55_J2 hdX14_55_J2 ⟨Nat.le_trans (Nat.le_of_ble_eq_true rfl) hR.1, Nat.le_trans (Nat.le_of_ble_eq_true rfl) hR.2⟩ rfl hl.1 rfl (Nat.le_of_ble_eq_true rfl) rfl dX14_lay_58 (fun H locs cells slots I => ?_)
      refine lv_pop hx hb dX14_lay_63 rfl ?_
      obtain ⟨x6_33, ex6_33, hf⟩ := ol hf
      refine lv_iinc (v := x6_33) (lv' := [(6, .int x6_33), (0, .ref x0), (1, .ref x1), (2, .ref x2), (3, .ref x3), (4, .int x4), (5, .int x5)]) hx hb dX14_lay_64 hl (k := 6) rfl ex6_33 (by decide) rfl (fun ls hl => ?_)
      refine lv_goto (tgt := 12) hx hb dX14_lay_67 (by decide) ?_
      exact ih x0 x1 x2 x3 x4 x5 x6_33 σ_32 _ _ _ _ _ I (lv_sub hl [1, 2, 3, 4, 5, 6, 0] rfl) hf
theorem wX14_lay_0 {E : EV} {l : Launch} {p : Program} {e : Env} {s : State} {m : MethodId} {args : Array Value} {below : List Frame} {meth : Method} {c : Code} {R : Room} {res : St} (hX : XK E) (hR : 8 ≤ R.frames ∧ 193 ≤ R.locals) (X : MX E p s m args meth c cX14_lay 7 none RX14 "lay") (N : Nat) : ∀ (x0 : Nat) (x1 : Nat) (x2 : Nat) (x3 : Nat) (x4 : Int32) (x5 : Int32) (σ : St) (H : Heap) (locs : List Loc) (cells slots : Nat) (ls : Array Slot), WI E R s σ H locs cells slots → lv_has ls 7 [(0, .ref x0), (1, .ref x1), (2, .ref x2), (3, .ref x3), (4, .int x4), (5, .int x5)] → fX14_lay N E.2.2.2.1 σ x0 x1 x2 x3 x4 x5 = some res → W p l e R s m args below meth c H locs cells slots (MQ below (Qd E R.cells R.slots none res) args s R.cells R.slots (fr E)) (F0 m 0 ls []) := by
  intro x0 x1 x2 x3 x4 x5 σ H locs cells slots ls I hl hf
  obtain ⟨⟨hx, hb, hml, hown, hts⟩, -⟩ := id X
  unfold fX14_lay at hf
  refine lv_aload_n hx hb dX14_lay_0 rfl (lv_at hl 0 rfl) ?_
  obtain ⟨v_34, ev_34, hf⟩ := ob hf
  refine g_get X I gfX14_12 (gR_in ev_34) dX14_lay_1 ?_
  obtain ⟨a_35, ea_35, hga_35⟩ := ob hf
  have hla_35 := hl
  have Ia_35 := I
  subst ea_35
  have hf := hga_35
  have hl := hla_35
  have I := Ia_35
  obtain ⟨u_36, eu_36, hf⟩ := ob hf
  obtain ⟨σ_38, ev_37, hf⟩ := ob hf
  refine cg_F (vw := (RJ2, TJ2, 3)) (ci := 21) (r := none) (σ' := σ_38) (rs := []) (rest := []) (As := []) hX X I eu_36 rfl (mJ2_clear hX ev_37) lvX14_31_J2 hdX14_31_J2 ⟨Nat.le_trans (Nat.le_of_ble_eq_true rfl) hR.1, Nat.le_trans (Nat.le_of_ble_eq_true rfl) hR.2⟩ rfl hl.1 rfl (Nat.le_of_ble_eq_true rfl) rfl dX14_lay_4 (fun H locs cells slots I => ?_)
  refine lv_iconst (v := 0) hx hb dX14_lay_9 (by decide) ?_
  refine lv_istore (lv' := [(6, .int (0 : Int32)), (0, .ref x0), (1, .ref x1), (2, .ref x2), (3, .ref x3), (4, .int x4), (5, .int x5)]) hx hb dX14_lay_10 hl (by decide) rfl (fun ls hl => ?_)
  exact wX14_lay_12 hX hR X N N x0 x1 x2 x3 x4 x5 (0 : Int32) σ_38 _ _ _ _ _ I (lv_sub hl [1, 2, 3, 4, 5, 6, 0] rfl) hf
theorem mX14_lay {E : EV} {l : Launch} {N : Nat} {σ : St} {x0 : Nat} {x1 : Nat} {x2 : Nat} {x3 : Nat} {x4 : Int32} {x5 : Int32} {res : St} (hX : XK E) (hf : fX14_lay N E.2.2.2.1 σ x0 x1 x2 x3 x4 x5 = some res) : CM E l yX14_lay (ws_ yX14_lay cX14_lay 7 none) 8 193 [.ref x0, .ref x1, .ref x2, .ref x3, .int x4, .int x5] σ none res := by
  refine CM.of hX.1 (by decide) rfl rfl (Nat.le_of_ble_eq_true rfl) ?_
  intro p e s m below meth c X I ls hl
  exact wX14_lay_0 hX ⟨Nat.le_refl _, Nat.le_refl _⟩ X N _ _ _ _ _ _ _ _ _ _ _ _ I hl hf
/-! SharedTaxis$Walk.isWithin()Z imp=False fuel=False kap=False rt=I thr=False -/
theorem gfX13_149 : ∀ q ∈ ([(11, 14)] : List (Nat × Nat)), GF RX13 149 q := List.forall_mem_cons.mpr ⟨⟨RX13, TX13, 17, _, rfl, in_X13, by decide, q1671, Or.inl rfl⟩, fun _ h => by cases h⟩
theorem gfX13_159 : ∀ q ∈ ([(10, 0)] : List (Nat × Nat)), GN RX13 159 q := List.forall_mem_cons.mpr ⟨⟨RX12, TX12, 15, _, rfl, in_X12, by decide, q906⟩, fun _ h => by cases h⟩
theorem lvX13_156 : GoodIn lw_all (wsV RX13 156 RX16 yX16_most (ws_ yX16_most cX16_most 1 (some .int))) := lw_V q1876 q1743 q1744 q153 q1745
theorem hdX13_156 : yX16_most.cls = RX16 ∧ yX16_most.cls ≠ "java/lang/invoke/MethodHandle" ∧ yX16_most.cls ≠ "java/lang/invoke/VarHandle" ∧ (parseMethodDescriptor yX16_most.desc).map (fun d => d.parameters.length) = some 0 := by decide +kernel
theorem gfX13_153 : ∀ q ∈ ([(14, 5)] : List (Nat × Nat)), GN RX13 153 q := List.forall_mem_cons.mpr ⟨⟨RX16, TX16, 15, _, rfl, in_X16, by decide, q1123⟩, fun _ h => by cases h⟩
def fX13_isWithin_64 (σ : St) (x0 : Nat) (y0 : Int32) : Option Int32 := (gI σ x0 [(11, 15)]).bind fun v_1 : Int32 => if v_1 = 0 then if y0 = 0 then some (0 : Int32) else (gI σ x0 [(11, 14)]).bind fun v_2 : Int32 => (gR σ x0 [(11, 1)]).bind fun v_3 : Option Nat => (v_3).bind fun a_4 : Nat => (gI σ a_4 [(10, 0)]).bind fun v_5 : Int32 => if v_5 < v_2 then some (0 : Int32) else (gI σ x0 [(11, 13)]).bind fun v_6 : Int32 => (gR σ x0 [(11, 0)]).bind fun v_7 : Option Nat => (v_7).bind fun a_8 : Nat => (gR σ a_8 [(1, 1)]).bind fun v_9 : Option Nat => (v_9).bind fun a_10 : Nat => (aI σ a_10 0 (5 : Int32)).bind fun v_11 : Int32 => if v_11 < v_6 then some (0 : Int32) else some (1 : Int32) else some (0 : Int32)
def fX13_isWithin (σ : St) (x0 : Nat) : Option Int32 := (gR σ x0 [(11, 7)]).bind fun v_12 : Option Nat => (v_12).bind fun a_13 : Nat => (gI σ a_13 [(13, 1)]).bind fun v_14 : Int32 => if v_14 = 0 then (gI σ x0 [(11, 11)]).bind fun v_15 : Int32 => (gR σ x0 [(11, 16)]).bind fun v_16 : Option Nat => (gR σ x0 [(11, 7)]).bind fun v_17 : Option Nat => (v_17).bind fun a_18 : Nat => (gI σ a_18 [(13, 0)]).bind fun v_19 : Int32 => (v_16).bind fun a_20 : Nat => (aI σ a_20 0 v_19).bind fun v_21 : Int32 => (gR σ x0 [(11, 8)]).bind fun v_22 : Option Nat => (v_22).bind fun a_23 : Nat => (isC σ a_23 14).bind fun u_24 : Unit => (fX16_most σ a_23).bind fun v_25 : Int32 => if v_25 < (v_15 - v_21) then fX13_isWithin_64 σ x0 (0 : Int32) else fX13_isWithin_64 σ x0 (1 : Int32) else (gI σ x0 [(11, 11)]).bind fun v_27 : Int32 => (gR σ x0 [(11, 8)]).bind fun v_28 : Option Nat => (v_28).bind fun a_29 : Nat => (gI σ a_29 [(14, 5)]).bind fun v_30 : Int32 => if v_30 < v_27 then fX13_isWithin_64 σ x0 (0 : Int32) else fX13_isWithin_64 σ x0 (1 : Int32)
theorem wX13_isWithin_64 {E : EV} {l : Launch} {p : Program} {e : Env} {s : State} {m : MethodId} {args : Array Value} {below : List Frame} {meth : Method} {c : Code} {R : Room} {σ : St} {res : Int32} (hX : XK E) (hR : 1 ≤ R.frames ∧ 20 ≤ R.locals) (X : MX E p s m args meth c cX13_isWithin 2 (some .boolean) RX13 "isWithin") : ∀ (x0 : Nat) (y0 : Int32) (H : Heap) (locs : List Loc) (cells slots : Nat) (ls : Array Slot), WI E R s σ H locs cells slots → lv_has ls 2 [(0, .ref x0)] → fX13_isWithin_64 σ x0 y0 = some res → W p l e R s m args below meth c H locs cells slots (MQ below (Qd E R.cells R.slots (some (.int res)) σ) args s R.cells R.slots (fr E)) (F0 m 64 ls [.int y0]) := by
  intro x0 y0 H locs cells slots ls I hl hf
  obtain ⟨⟨hx, hb, hml, hown, hts⟩, -⟩ := id X
  unfold fX13_isWithin_64 at hf
  refine lv_istore_n (lv' := [(1, .int y0), (0, .ref x0)]) hx hb dX13_isWithin_64 rfl hl (by decide) rfl (fun ls hl => ?_)
  refine lv_aload_n hx hb dX13_isWithin_65 rfl (lv_at hl 1 rfl) ?_
  obtain ⟨v_1, ev_1, hf⟩ := ob hf
  refine g_get X I gfX13_54 (gI_in ev_1) dX13_isWithin_66 ?_
  refine lv_if_ne (tgt := 110) hx hb dX13_isWithin_69 (by decide) (fun c_69 => ?_) (fun c_69 => ?_)
  · have hf := im c_69 hf
    refine lv_iconst (v := 0) hx hb dX13_isWithin_110 (by decide) ?_
    cases os hf
    exact r_zret X I (Or.inl rfl) dX13_isWithin_111
  · have hf := ip c_69 hf
    refine lv_iload_n hx hb dX13_isWithin_72 rfl (lv_at hl 0 rfl) ?_
    refine lv_if_eq (tgt := 110) hx hb dX13_isWithin_73 (by decide) (fun c_73 => ?_) (fun c_73 => ?_)
    · have hf := ip c_73 hf
      refine lv_iconst (v := 0) hx hb dX13_isWithin_110 (by decide) ?_
      cases os hf
      exact r_zret X I (Or.inl rfl) dX13_isWithin_111
    · have hf := im c_73 hf
      refine lv_aload_n hx hb dX13_isWithin_76 rfl (lv_at hl 1 rfl) ?_
      obtain ⟨v_2, ev_2, hf⟩ := ob hf
      refine g_get X I gfX13_149 (gI_in ev_2) dX13_isWithin_77 ?_
      refine lv_aload_n hx hb dX13_isWithin_80 rfl (lv_at hl 1 rfl) ?_
      obtain ⟨v_3, ev_3, hf⟩ := ob hf
      refine g_get X I gfX13_19 (gR_in ev_3) dX13_isWithin_81 ?_
      obtain ⟨a_4, ea_4, hga_4⟩ := ob hf
      have hla_4 := hl
      have Ia_4 := I
      subst ea_4
      have hf := hga_4
      have hl := hla_4
      have I := Ia_4
      obtain ⟨v_5, ev_5, hf⟩ := ob hf
      refine g_getN hX X I gfX13_159 (gI_in ev_5) dX13_isWithin_84 ?_
      refine lv_icmp_gt (tgt := 110) hx hb dX13_isWithin_87 (by decide) (fun c_87 => ?_) (fun c_87 => ?_)
      · have hf := ip c_87 hf
        refine lv_iconst (v := 0) hx hb dX13_isWithin_110 (by decide) ?_
        cases os hf
        exact r_zret X I (Or.inl rfl) dX13_isWithin_111
      · have hf := im c_87 hf
        refine lv_aload_n hx hb dX13_isWithin_90 rfl (lv_at hl 1 rfl) ?_
        obtain ⟨v_6, ev_6, hf⟩ := ob hf
        refine g_get X I gfX13_44 (gI_in ev_6) dX13_isWithin_91 ?_
        refine lv_aload_n hx hb dX13_isWithin_94 rfl (lv_at hl 1 rfl) ?_
        obtain ⟨v_7, ev_7, hf⟩ := ob hf
        refine g_get X I gfX13_15 (gR_in ev_7) dX13_isWithin_95 ?_
        obtain ⟨a_8, ea_8, hga_8⟩ := ob hf
        have hla_8 := hl
        have Ia_8 := I
        subst ea_8
        have hf := hga_8
        have hl := hla_8
        have I := Ia_8
        obtain ⟨v_9, ev_9, hf⟩ := ob hf
        refine g_getN hX X I gfX13_137 (gR_in ev_9) dX13_isWithin_98 ?_
        refine lv_iconst (v := 5) hx hb dX13_isWithin_101 (by decide) ?_
        obtain ⟨a_10, ea_10, hga_10⟩ := ob hf
        have hla_10 := hl
        have Ia_10 := I
        subst ea_10
        have hf := hga_10
        have hl := hla_10
        have I := Ia_10
        obtain ⟨v_11, ev_11, hf⟩ := ob hf
        refine g_iald X I ev_11 dX13_isWithin_102 ?_
        refine lv_icmp_gt (tgt := 110) hx hb dX13_isWithin_103 (by decide) (fun c_103 => ?_) (fun c_103 => ?_)
        · have hf := ip c_103 hf
          refine lv_iconst (v := 0) hx hb dX13_isWithin_110 (by decide) ?_
          cases os hf
          exact r_zret X I (Or.inl rfl) dX13_isWithin_111
        · have hf := im c_103 hf
          refine lv_iconst (v := 1) hx hb dX13_isWithin_106 (by decide) ?_
          refine lv_goto (tgt := 111) hx hb dX13_isWithin_107 (by decide) ?_
          cases os hf
          exact r_zret X I (Or.inr rfl) dX13_isWithin_111
theorem wX13_isWithin_0 {E : EV} {l : Launch} {p : Program} {e : Env} {s : State} {m : MethodId} {args : Array Value} {below : List Frame} {meth : Method} {c : Code} {R : Room} {σ : St} {res : Int32} (hX : XK E) (hR : 1 ≤ R.frames ∧ 20 ≤ R.locals) (X : MX E p s m args meth c cX13_isWithin 2 (some .boolean) RX13 "isWithin") : ∀ (x0 : Nat) (H : Heap) (locs : List Loc) (cells slots : Nat) (ls : Array Slot), WI E R s σ H locs cells slots → lv_has ls 2 [(0, .ref x0)] → fX13_isWithin σ x0 = some res → W p l e R s m args below meth c H locs cells slots (MQ below (Qd E R.cells R.slots (some (.int res)) σ) args s R.cells R.slots (fr E)) (F0 m 0 ls []) := by
  intro x0 H locs cells slots ls I hl hf
  obtain ⟨⟨hx, hb, hml, hown, hts⟩, -⟩ := id X
  unfold fX13_isWithin at hf
  refine lv_aload_n hx hb dX13_isWithin_0 rfl (lv_at hl 0 rfl) ?_
  obtain ⟨v_12, ev_12, hf⟩ := ob hf
  refine g_get X I gfX13_95 (gR_in ev_12) dX13_isWithin_1 ?_
  obtain ⟨a_13, ea_13, hga_13⟩ := ob hf
  have hla_13 := hl
  have Ia_13 := I
  subst ea_13
  have hf := hga_13
  have hl := hla_13
  have I := Ia_13
  obtain ⟨v_14, ev_14, hf⟩ := ob hf
  refine g_getN hX X I gfX13_99 (gI_in ev_14) dX13_isWithin_4 ?_
  refine lv_if_eq (tgt := 32) hx hb dX13_isWithin_7 (by decide) (fun c_7 => ?_) (fun c_7 => ?_)
  · have hf := ip c_7 hf
    refine lv_aload_n hx hb dX13_isWithin_32 rfl (lv_at hl 0 rfl) ?_
    obtain ⟨v_15, ev_15, hf⟩ := ob hf
    refine g_get X I gfX13_140 (gI_in ev_15) dX13_isWithin_33 ?_
    refine lv_aload_n hx hb dX13_isWithin_36 rfl (lv_at hl 0 rfl) ?_
    obtain ⟨v_16, ev_16, hf⟩ := ob hf
    refine g_get X I gfX13_9 (gR_in ev_16) dX13_isWithin_37 ?_
    refine lv_aload_n hx hb dX13_isWithin_40 rfl (lv_at hl 0 rfl) ?_
    obtain ⟨v_17, ev_17, hf⟩ := ob hf
    refine g_get X I gfX13_95 (gR_in ev_17) dX13_isWithin_41 ?_
    obtain ⟨a_18, ea_18, hga_18⟩ := ob hf
    have hla_18 := hl
    have Ia_18 := I
    subst ea_18
    have hf := hga_18
    have hl := hla_18
    have I := Ia_18
    obtain ⟨v_19, ev_19, hf⟩ := ob hf
    refine g_getN hX X I gfX13_114 (gI_in ev_19) dX13_isWithin_44 ?_
    obtain ⟨a_20, ea_20, hga_20⟩ := ob hf
    have hla_20 := hl
    have Ia_20 := I
    subst ea_20
    have hf := hga_20
    have hl := hla_20
    have I := Ia_20
    obtain ⟨v_21, ev_21, hf⟩ := ob hf
    refine g_iald X I ev_21 dX13_isWithin_47 ?_
    refine lv_isub hx hb dX13_isWithin_48 ?_
    refine lv_aload_n hx hb dX13_isWithin_49 rfl (lv_at hl 0 rfl) ?_
    obtain ⟨v_22, ev_22, hf⟩ := ob hf
    refine g_get X I gfX13_104 (gR_in ev_22) dX13_isWithin_50 ?_
    obtain ⟨a_23, ea_23, hga_23⟩ := ob hf
    have hla_23 := hl
    have Ia_23 := I
    subst ea_23
    have hf := hga_23
    have hl := hla_23
    have I := Ia_23
    obtain ⟨u_24, eu_24, hf⟩ := ob hf
    obtain ⟨v_25, ev_25, hf⟩ := ob hf
    refine cg_V (vw := (RX16, TX16, 15)) (ci := 14) (r := (some (.int v_25))) (σ' := σ) (rs := [.int v_25, .int (v_15 - v_21)]) (rest := [.int (v_15 - v_21)]) (As := []) X I eu_24 rfl (mX16_most hX ev_25) lvX13_156 hdX13_156 ⟨Nat.le_trans (Nat.le_of_ble_eq_true rfl) hR.1, Nat.le_trans (Nat.le_of_ble_eq_true rfl) hR.2⟩ rfl hl.1 rfl (Nat.le_of_ble_eq_true rfl) rfl dX13_isWithin_53 (fun H locs cells slots I => ?_)
    refine lv_icmp_gt (tgt := 63) hx hb dX13_isWithin_56 (by decide) (fun c_56 => ?_) (fun c_56 => ?_)
    · have hf := ip c_56 hf
      refine lv_iconst (v := 0) hx hb dX13_isWithin_63 (by decide) ?_
      exact wX13_isWithin_64 hX hR X x0 (0 : Int32) _ _ _ _ _ I (lv_sub hl [0] rfl) hf
    · have hf := im c_56 hf
      refine lv_iconst (v := 1) hx hb dX13_isWithin_59 (by decide) ?_
      refine lv_goto (tgt := 64) hx hb dX13_isWithin_60 (by decide) ?_
      exact wX13_isWithin_64 hX hR X x0 (1 : Int32) _ _ _ _ _ I (lv_sub hl [0] rfl) hf
  · have hf := im c_7 hf
    refine lv_aload_n hx hb dX13_isWithin_10 rfl (lv_at hl 0 rfl) ?_
    obtain ⟨v_27, ev_27, hf⟩ := ob hf
    refine g_get X I gfX13_140 (gI_in ev_27) dX13_isWithin_11 ?_
    refine lv_aload_n hx hb dX13_isWithin_14 rfl (lv_at hl 0 rfl) ?_
    obtain ⟨v_28, ev_28, hf⟩ := ob hf
    refine g_get X I gfX13_104 (gR_in ev_28) dX13_isWithin_15 ?_
    obtain ⟨a_29, ea_29, hga_29⟩ := ob hf
    have hla_29 := hl
    have Ia_29 := I
    subst ea_29
    have hf := hga_29
    have hl := hla_29
    have I := Ia_29
    obtain ⟨v_30, ev_30, hf⟩ := ob hf
    refine g_getN hX X I gfX13_153 (gI_in ev_30) dX13_isWithin_18 ?_
    refine lv_icmp_gt (tgt := 28) hx hb dX13_isWithin_21 (by decide) (fun c_21 => ?_) (fun c_21 => ?_)
    · have hf := ip c_21 hf
      refine lv_iconst (v := 0) hx hb dX13_isWithin_28 (by decide) ?_
      refine lv_goto (tgt := 64) hx hb dX13_isWithin_29 (by decide) ?_
      exact wX13_isWithin_64 hX hR X x0 (0 : Int32) _ _ _ _ _ I (lv_sub hl [0] rfl) hf
    · have hf := im c_21 hf
      refine lv_iconst (v := 1) hx hb dX13_isWithin_24 (by decide) ?_
      refine lv_goto (tgt := 64) hx hb dX13_isWithin_25 (by decide) ?_
      exact wX13_isWithin_64 hX hR X x0 (1 : Int32) _ _ _ _ _ I (lv_sub hl [0] rfl) hf
theorem mX13_isWithin {E : EV} {l : Launch} {σ : St} {x0 : Nat} {res : Int32} (hX : XK E) (hf : fX13_isWithin σ x0 = some res) : CM E l yX13_isWithin (ws_ yX13_isWithin cX13_isWithin 2 (some .boolean)) 1 20 [.ref x0] σ (some (.int res)) σ := by
  refine CM.of hX.1 (by decide) rfl rfl (Nat.le_of_ble_eq_true rfl) ?_
  intro p e s m below meth c X I ls hl
  exact wX13_isWithin_0 hX ⟨Nat.le_refl _, Nat.le_refl _⟩ X _ _ _ _ _ _ I hl hf
/-! java/util/ArrayList.isEmpty()Z imp=False fuel=False kap=False rt=I thr=False -/
def fJ2_isEmpty (σ : St) (x0 : Nat) : Option Int32 := (gI σ x0 [(21, 2)]).bind fun v_1 : Int32 => if v_1 = 0 then some (1 : Int32) else some (0 : Int32)
theorem wJ2_isEmpty_0 {E : EV} {l : Launch} {p : Program} {e : Env} {s : State} {m : MethodId} {args : Array Value} {below : List Frame} {meth : Method} {c : Code} {R : Room} {σ : St} {res : Int32} (hX : XK E) (hR : 0 ≤ R.frames ∧ 0 ≤ R.locals) (X : MX E p s m args meth c cJ2_isEmpty 1 (some .boolean) RJ2 "isEmpty") : ∀ (x0 : Nat) (H : Heap) (locs : List Loc) (cells slots : Nat) (ls : Array Slot), WI E R s σ H locs cells slots → lv_has ls 1 [(0, .ref x0)] → fJ2_isEmpty σ x0 = some res → W p l e R s m args below meth c H locs cells slots (MQ below (Qd E R.cells R.slots (some (.int res)) σ) args s R.cells R.slots (fr E)) (F0 m 0 ls []) := by
  intro x0 H locs cells slots ls I hl hf
  obtain ⟨⟨hx, hb, hml, hown, hts⟩, -⟩ := id X
  unfold fJ2_isEmpty at hf
  refine lv_aload_n hx hb dJ2_isEmpty_0 rfl (lv_at hl 0 rfl) ?_
  obtain ⟨v_1, ev_1, hf⟩ := ob hf
  refine g_get X I gfJ2_48 (gI_in ev_1) dJ2_isEmpty_1 ?_
  refine lv_if_ne (tgt := 11) hx hb dJ2_isEmpty_4 (by decide) (fun c_4 => ?_) (fun c_4 => ?_)
  · have hf := im c_4 hf
    refine lv_iconst (v := 0) hx hb dJ2_isEmpty_11 (by decide) ?_
    cases os hf
    exact r_zret X I (Or.inl rfl) dJ2_isEmpty_12
  · have hf := ip c_4 hf
    refine lv_iconst (v := 1) hx hb dJ2_isEmpty_7 (by decide) ?_
    refine lv_goto (tgt := 12) hx hb dJ2_isEmpty_8 (by decide) ?_
    cases os hf
    exact r_zret X I (Or.inr rfl) dJ2_isEmpty_12
theorem mJ2_isEmpty {E : EV} {l : Launch} {σ : St} {x0 : Nat} {res : Int32} (hX : XK E) (hf : fJ2_isEmpty σ x0 = some res) : CM E l yJ2_isEmpty (ws_ yJ2_isEmpty cJ2_isEmpty 1 (some .boolean)) 0 0 [.ref x0] σ (some (.int res)) σ := by
  refine CM.of hX.1 (by decide) rfl rfl (Nat.le_of_ble_eq_true rfl) ?_
  intro p e s m below meth c X I ls hl
  exact wJ2_isEmpty_0 hX ⟨Nat.le_refl _, Nat.le_refl _⟩ X _ _ _ _ _ _ I hl hf
/-! SharedTaxis$Walk.keeps()Z imp=True fuel=True kap=False rt=I thr=False -/
theorem lvX13_172_J2 : GoodIn lw_all (va_wsF RX13 172 RJ2 ⟨"java/util/List", "isEmpty", "()Z"⟩ yJ2_isEmpty (ws_ yJ2_isEmpty cJ2_isEmpty 1 (some .boolean))) ∧ (RJ2, ⟨"java/util/List", "isEmpty", "()Z"⟩, yJ2_isEmpty) ∈ FWL := ⟨lw_good (List.forall_mem_cons.mpr ⟨q1878, List.forall_mem_cons.mpr ⟨q1881, List.forall_mem_cons.mpr ⟨q1883, List.forall_mem_cons.mpr ⟨q118, fun w h => (lw_meth q1885 w h).1⟩⟩⟩⟩), List.mem_of_getElem? (i := 12) rfl⟩
theorem hdX13_172_J2 : (⟨"java/util/List", "isEmpty", "()Z"⟩ : MethodName).cls ≠ "java/lang/invoke/MethodHandle" ∧ (⟨"java/util/List", "isEmpty", "()Z"⟩ : MethodName).cls ≠ "java/lang/invoke/VarHandle" ∧ (parseMethodDescriptor (⟨"java/util/List", "isEmpty", "()Z"⟩ : MethodName).desc).map (fun d => d.parameters.length) = some 0 := by decide +kernel
theorem gfX13_175 : ∀ q ∈ ([(10, 4)] : List (Nat × Nat)), GN RX13 175 q := List.forall_mem_cons.mpr ⟨⟨RX12, TX12, 15, _, rfl, in_X12, by decide, q919⟩, fun _ h => by cases h⟩
theorem lvX13_169 : GoodIn lw_all (wsV RX13 169 RX13 yX13_isWithin (ws_ yX13_isWithin cX13_isWithin 2 (some .boolean))) := lw_V q1872 q1874 qs24 q149 q1875
theorem hdX13_169 : yX13_isWithin.cls = RX13 ∧ yX13_isWithin.cls ≠ "java/lang/invoke/MethodHandle" ∧ yX13_isWithin.cls ≠ "java/lang/invoke/VarHandle" ∧ (parseMethodDescriptor yX13_isWithin.desc).map (fun d => d.parameters.length) = some 0 := by decide +kernel
def fX13_keeps_0 (N : Nat) : Nat → Nat → St → Option (Int32 × St)
  | 0, _, _ => none
  | n + 1, x0, σ => (isC σ x0 11).bind fun u_1 : Unit => (fX13_goesOn σ x0).bind fun v_2 : Int32 => if v_2 = 0 then (gR σ x0 [(11, 2)]).bind fun v_4 : Option Nat => (v_4).bind fun a_5 : Nat => (isC σ a_5 21).bind fun u_6 : Unit => (fJ2_isEmpty σ a_5).bind fun v_7 : Int32 => if v_7 = 0 then (gI σ x0 [(11, 12)]).bind fun v_9 : Int32 => (gR σ x0 [(11, 1)]).bind fun v_10 : Option Nat => (v_10).bind fun a_11 : Nat => (gI σ a_11 [(10, 4)]).bind fun v_12 : Int32 => if v_12 < v_9 then some ((0 : Int32), σ) else some ((1 : Int32), σ) else some ((1 : Int32), σ) else (isC σ x0 11).bind fun u_13 : Unit => (fX13_next σ x0).bind fun σ_15 : St => (isC σ_15 x0 11).bind fun u_16 : Unit => (fX13_isWithin σ_15 x0).bind fun v_17 : Int32 => if v_17 = 0 then some ((0 : Int32), σ_15) else fX13_keeps_0 N n x0 σ_15
def fX13_keeps (N : Nat) (σ : St) (x0 : Nat) : Option (Int32 × St) := fX13_keeps_0 N N x0 σ
theorem wX13_keeps_0 {E : EV} {l : Launch} {p : Program} {e : Env} {s : State} {m : MethodId} {args : Array Value} {below : List Frame} {meth : Method} {c : Code} {R : Room} {res : (Int32 × St)} (hX : XK E) (hR : 4 ≤ R.frames ∧ 85 ≤ R.locals) (X : MX E p s m args meth c cX13_keeps 1 (some .boolean) RX13 "keeps") (N : Nat) : ∀ (n : Nat) (x0 : Nat) (σ : St) (H : Heap) (locs : List Loc) (cells slots : Nat) (ls : Array Slot), WI E R s σ H locs cells slots → lv_has ls 1 [(0, .ref x0)] → fX13_keeps_0 N n x0 σ = some res → W p l e R s m args below meth c H locs cells slots (MQ below (Qd E R.cells R.slots (some (.int res.1)) res.2) args s R.cells R.slots (fr E)) (F0 m 0 ls []) := by
  intro n
  induction n with
  | zero => intro x0 σ H locs cells slots ls I hl hf; exact nomatch (show none = some res from hf)
  | succ n ih =>
    intro x0 σ H locs cells slots ls I hl hf
    obtain ⟨⟨hx, hb, hml, hown, hts⟩, -⟩ := id X
    rw [fX13_keeps_0.eq_2] at hf
    refine lv_aload_n hx hb dX13_keeps_0 rfl (lv_at hl 0 rfl) ?_
    obtain ⟨u_1, eu_1, hf⟩ := ob hf
    obtain ⟨v_2, ev_2, hf⟩ := ob hf
    refine cg_V (vw := (RX13, TX13, 17)) (ci := 11) (r := (some (.int v_2))) (σ' := σ) (rs := [.int v_2]) (rest := []) (As := []) X I eu_1 rfl (mX13_goesOn hX ev_2) lvX13_162 hdX13_162 ⟨Nat.le_trans (Nat.le_of_ble_eq_true rfl) hR.1, Nat.le_trans (Nat.le_of_ble_eq_true rfl) hR.2⟩ rfl hl.1 rfl (Nat.le_of_ble_eq_true rfl) rfl dX13_keeps_1 (fun H locs cells slots I => ?_)
    refine lv_if_eq (tgt := 20) hx hb dX13_keeps_4 (by decide) (fun c_4 => ?_) (fun c_4 => ?_)
    · have hf := ip c_4 hf
      refine lv_aload_n hx hb dX13_keeps_20 rfl (lv_at hl 0 rfl) ?_
      obtain ⟨v_4, ev_4, hf⟩ := ob hf
      refine g_get X I gfX13_23 (gR_in ev_4) dX13_keeps_21 ?_
      obtain ⟨a_5, ea_5, hga_5⟩ := ob hf
      have hla_5 := hl
      have Ia_5 := I
      subst ea_5
      have hf := hga_5
      have hl := hla_5
      have I := Ia_5
      obtain ⟨u_6, eu_6, hf⟩ := ob hf
      obtain ⟨v_7, ev_7, hf⟩ := ob hf
      refine cg_F (vw := (RJ2, TJ2, 3)) (ci := 21) (r := (some (.int v_7))) (σ' := σ) (rs := [.int v_7]) (rest := []) (As := []) hX X I eu_6 rfl (mJ2_isEmpty hX ev_7) lvX13_172_J2 hdX13_172_J2 ⟨Nat.le_trans (Nat.le_of_ble_eq_true rfl) hR.1, Nat.le_trans (Nat.le_of_ble_eq_true rfl) hR.2⟩ rfl hl.1 rfl (Nat.le_of_ble_eq_true rfl) rfl dX13_keeps_24 (fun H locs cells slots I => ?_)
      refine lv_if_ne (tgt := 46) hx hb dX13_keeps_29 (by decide) (fun c_29 => ?_) (fun c_29 => ?_)
      · have hf := im c_29 hf
        refine lv_iconst (v := 1) hx hb dX13_keeps_46 (by decide) ?_
        refine lv_goto (tgt := 51) hx hb dX13_keeps_47 (by decide) ?_
        cases os hf
        exact r_zret X I (Or.inr rfl) dX13_keeps_51
      · have hf := ip c_29 hf
        refine lv_aload_n hx hb dX13_keeps_32 rfl (lv_at hl 0 rfl) ?_
        obtain ⟨v_9, ev_9, hf⟩ := ob hf
        refine g_get X I gfX13_146 (gI_in ev_9) dX13_keeps_33 ?_
        refine lv_aload_n hx hb dX13_keeps_36 rfl (lv_at hl 0 rfl) ?_
        obtain ⟨v_10, ev_10, hf⟩ := ob hf
        refine g_get X I gfX13_19 (gR_in ev_10) dX13_keeps_37 ?_
        obtain ⟨a_11, ea_11, hga_11⟩ := ob hf
        have hla_11 := hl
        have Ia_11 := I
        subst ea_11
        have hf := hga_11
        have hl := hla_11
        have I := Ia_11
        obtain ⟨v_12, ev_12, hf⟩ := ob hf
        refine g_getN hX X I gfX13_175 (gI_in ev_12) dX13_keeps_40 ?_
        refine lv_icmp_gt (tgt := 50) hx hb dX13_keeps_43 (by decide) (fun c_43 => ?_) (fun c_43 => ?_)
        · have hf := ip c_43 hf
          refine lv_iconst (v := 0) hx hb dX13_keeps_50 (by decide) ?_
          cases os hf
          exact r_zret X I (Or.inl rfl) dX13_keeps_51
        · have hf := im c_43 hf
          refine lv_iconst (v := 1) hx hb dX13_keeps_46 (by decide) ?_
          refine lv_goto (tgt := 51) hx hb dX13_keeps_47 (by decide) ?_
          cases os hf
          exact r_zret X I (Or.inr rfl) dX13_keeps_51
    · have hf := im c_4 hf
      refine lv_aload_n hx hb dX13_keeps_7 rfl (lv_at hl 0 rfl) ?_
      obtain ⟨u_13, eu_13, hf⟩ := ob hf
      obtain ⟨σ_15, ev_14, hf⟩ := ob hf
      refine cg_V (vw := (RX13, TX13, 17)) (ci := 11) (r := none) (σ' := σ_15) (rs := []) (rest := []) (As := []) X I eu_13 rfl (mX13_next hX ev_14) lvX13_166 hdX13_166 ⟨Nat.le_trans (Nat.le_of_ble_eq_true rfl) hR.1, Nat.le_trans (Nat.le_of_ble_eq_true rfl) hR.2⟩ rfl hl.1 rfl (Nat.le_of_ble_eq_true rfl) rfl dX13_keeps_8 (fun H locs cells slots I => ?_)
      refine lv_aload_n hx hb dX13_keeps_11 rfl (lv_at hl 0 rfl) ?_
      obtain ⟨u_16, eu_16, hf⟩ := ob hf
      obtain ⟨v_17, ev_17, hf⟩ := ob hf
      refine cg_V (vw := (RX13, TX13, 17)) (ci := 11) (r := (some (.int v_17))) (σ' := σ_15) (rs := [.int v_17]) (rest := []) (As := []) X I eu_16 rfl (mX13_isWithin hX ev_17) lvX13_169 hdX13_169 ⟨Nat.le_trans (Nat.le_of_ble_eq_true rfl) hR.1, Nat.le_trans (Nat.le_of_ble_eq_true rfl) hR.2⟩ rfl hl.1 rfl (Nat.le_of_ble_eq_true rfl) rfl dX13_keeps_12 (fun H locs cells slots I => ?_)
      refine lv_if_ne (tgt := 0) hx hb dX13_keeps_15 (by decide) (fun c_15 => ?_) (fun c_15 => ?_)
      · have hf := im c_15 hf
        exact ih x0 σ_15 _ _ _ _ _ I (lv_sub hl [0] rfl) hf
      · have hf := ip c_15 hf
        refine lv_iconst (v := 0) hx hb dX13_keeps_18 (by decide) ?_
        cases os hf
        exact r_zret X I (Or.inl rfl) dX13_keeps_19
theorem mX13_keeps {E : EV} {l : Launch} {N : Nat} {σ : St} {x0 : Nat} {res : (Int32 × St)} (hX : XK E) (hf : fX13_keeps N σ x0 = some res) : CM E l yX13_keeps (ws_ yX13_keeps cX13_keeps 1 (some .boolean)) 4 85 [.ref x0] σ (some (.int res.1)) res.2 := by
  refine CM.of hX.1 (by decide) rfl rfl (Nat.le_of_ble_eq_true rfl) ?_
  intro p e s m below meth c X I ls hl
  exact wX13_keeps_0 hX ⟨Nat.le_refl _, Nat.le_refl _⟩ X N N _ _ _ _ _ _ _ I (lv_sub hl [0] rfl) hf
