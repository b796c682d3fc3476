set_option maxRecDepth 100000
/-! directOf(I)I -/
theorem lvX4_directOf : GoodIn lw_all (wsV RX4 280 RX4 yX4_directOf (ws_ yX4_directOf cX4_directOf 2 (some .int))) := lw_V q3056 q3058 qs79 q120 q3059
theorem hdX4_directOf : yX4_directOf.cls = RX4 ∧ yX4_directOf.cls ≠ "java/lang/invoke/MethodHandle" ∧ yX4_directOf.cls ≠ "java/lang/invoke/VarHandle" ∧ (parseMethodDescriptor yX4_directOf.desc).map (fun d => d.parameters.length) = some 1 := by decide +kernel
theorem wX4_directOf_0 {E : EV} {l : Launch} {p : Program} {e : Env} {s : State} {m : MethodId} {args : Array Value} {below : List Frame} {meth : Method} {c : Code} {R : Room} {h : Nat} {S : St} {σ : TS} {res : Int32} (hR : 1 ≤ R.frames ∧ 22 ≤ R.locals) (X : MX E p s m args meth c cX4_directOf 2 (some .int) RX4 "directOf") : ∀ (x1 : Int32) (H : Heap) (locs : List Loc) (cells slots : Nat) (ls : Array Slot), WI E R s (twS h σ S) H locs cells slots → lv_has ls 2 [(0, .ref h), (1, .int x1)] → fX4_directOf σ x1 = some res → W p l e R s m args below meth c H locs cells slots (MQ below (Qd E R.cells R.slots (some (.int res)) (twS h σ S)) args s R.cells R.slots (fr E)) (F0 m 0 ls []) := by
  intro x1 H locs cells slots ls I hl hf
  obtain ⟨⟨hx, hb, hml, hown, hts⟩, -⟩ := id X
  unfold fX4_directOf at hf
  refine lv_aload_n hx hb dX4_directOf_0 rfl (lv_at hl 0 rfl) ?_
  refine lv_aload_n hx hb dX4_directOf_1 rfl (lv_at hl 0 rfl) ?_
  refine lv_iload_n hx hb dX4_directOf_2 rfl (lv_at hl 1 rfl) ?_
  refine lv_iconst (v := 1) hx hb dX4_directOf_3 (by decide) ?_
  obtain ⟨v_1, ev_1, hf⟩ := ob hf
  refine tw_V (some (.int v_1)) (rs := [.int v_1, .ref h]) (rest := [.ref h]) (As := [.int x1, .int (1 : Int32)]) X I (mX4_of X.2.2.2.2.1 ev_1) lvX4_of hdX4_of ⟨Nat.le_trans (Nat.le_of_ble_eq_true rfl) hR.1, Nat.le_trans (Nat.le_of_ble_eq_true rfl) hR.2⟩ rfl hl.1 rfl (Nat.le_of_ble_eq_true rfl) rfl dX4_directOf_4 (fun H locs cells slots I => ?_)
  refine lv_aload_n hx hb dX4_directOf_7 rfl (lv_at hl 0 rfl) ?_
  refine lv_iload_n hx hb dX4_directOf_8 rfl (lv_at hl 1 rfl) ?_
  refine lv_iconst (v := 2) hx hb dX4_directOf_9 (by decide) ?_
  obtain ⟨v_3, ev_3, hf⟩ := ob hf
  refine tw_V (some (.int v_3)) (rs := [.int v_3, .int v_1, .ref h]) (rest := [.int v_1, .ref h]) (As := [.int x1, .int (2 : Int32)]) X I (mX4_of X.2.2.2.2.1 ev_3) lvX4_of hdX4_of ⟨Nat.le_trans (Nat.le_of_ble_eq_true rfl) hR.1, Nat.le_trans (Nat.le_of_ble_eq_true rfl) hR.2⟩ rfl hl.1 rfl (Nat.le_of_ble_eq_true rfl) rfl dX4_directOf_10 (fun H locs cells slots I => ?_)
  obtain ⟨v_5, ev_5, hf⟩ := ob hf
  refine tw_V (some (.int v_5)) (rs := [.int v_5]) (rest := []) (As := [.int v_1, .int v_3]) X I (mX4_minutesOf X.2.2.2.2.1 ev_5) lvX4_minutesOf hdX4_minutesOf ⟨Nat.le_trans (Nat.le_of_ble_eq_true rfl) hR.1, Nat.le_trans (Nat.le_of_ble_eq_true rfl) hR.2⟩ rfl hl.1 rfl (Nat.le_of_ble_eq_true rfl) rfl dX4_directOf_13 (fun H locs cells slots I => ?_)
  cases os hf
  exact r_iret X I dX4_directOf_16
theorem mX4_directOf {E : EV} {l : Launch} {h : Nat} {S : St} {σ : TS} {x1 : Int32} {res : Int32} (hE : EK E) (hf : fX4_directOf σ x1 = some res) : CM E l yX4_directOf (ws_ yX4_directOf cX4_directOf 2 (some .int)) 1 22 [.ref h, .int x1] (twS h σ S) (some (.int res)) (twS h σ S) := by
  refine CM.of hE (by decide) rfl rfl (Nat.le_of_ble_eq_true rfl) ?_
  intro p e s m below meth c X I ls hl
  exact wX4_directOf_0 ⟨Nat.le_refl _, Nat.le_refl _⟩ X _ _ _ _ _ _ I hl hf
/-! mostOf(I)I -/
theorem lvX4_mostOf : GoodIn lw_all (wsV RX4 295 RX4 yX4_mostOf (ws_ yX4_mostOf cX4_mostOf 3 (some .int))) := lw_V q3052 q3054 qs78 q120 q3055
theorem hdX4_mostOf : yX4_mostOf.cls = RX4 ∧ yX4_mostOf.cls ≠ "java/lang/invoke/MethodHandle" ∧ yX4_mostOf.cls ≠ "java/lang/invoke/VarHandle" ∧ (parseMethodDescriptor yX4_mostOf.desc).map (fun d => d.parameters.length) = some 1 := by decide +kernel
theorem wX4_mostOf_0 {E : EV} {l : Launch} {p : Program} {e : Env} {s : State} {m : MethodId} {args : Array Value} {below : List Frame} {meth : Method} {c : Code} {R : Room} {h : Nat} {S : St} {σ : TS} {res : Int32} (hR : 2 ≤ R.frames ∧ 43 ≤ R.locals) (X : MX E p s m args meth c cX4_mostOf 3 (some .int) RX4 "mostOf") : ∀ (x1 : Int32) (H : Heap) (locs : List Loc) (cells slots : Nat) (ls : Array Slot), WI E R s (twS h σ S) H locs cells slots → lv_has ls 3 [(0, .ref h), (1, .int x1)] → fX4_mostOf σ x1 = some res → W p l e R s m args below meth c H locs cells slots (MQ below (Qd E R.cells R.slots (some (.int res)) (twS h σ S)) args s R.cells R.slots (fr E)) (F0 m 0 ls []) := by
  intro x1 H locs cells slots ls I hl hf
  obtain ⟨⟨hx, hb, hml, hown, hts⟩, -⟩ := id X
  unfold fX4_mostOf at hf
  refine lv_aload_n hx hb dX4_mostOf_0 rfl (lv_at hl 0 rfl) ?_
  refine lv_iload_n hx hb dX4_mostOf_1 rfl (lv_at hl 1 rfl) ?_
  obtain ⟨v_1, ev_1, hf⟩ := ob hf
  refine tw_V (some (.int v_1)) (rs := [.int v_1]) (rest := []) (As := [.int x1]) X I (mX4_directOf X.2.2.2.2.1 ev_1) lvX4_directOf hdX4_directOf ⟨Nat.le_trans (Nat.le_of_ble_eq_true rfl) hR.1, Nat.le_trans (Nat.le_of_ble_eq_true rfl) hR.2⟩ rfl hl.1 rfl (Nat.le_of_ble_eq_true rfl) rfl dX4_mostOf_2 (fun H locs cells slots I => ?_)
  refine lv_istore_n (lv' := [(2, .int v_1), (0, .ref h), (1, .int x1)]) hx hb dX4_mostOf_5 rfl hl (by decide) rfl (fun ls hl => ?_)
  refine lv_iload_n hx hb dX4_mostOf_6 rfl (lv_at hl 0 rfl) ?_
  refine lv_iconst (v := (-1)) hx hb dX4_mostOf_7 (by decide) ?_
  refine lv_icmp_ne (tgt := 15) hx hb dX4_mostOf_8 (by decide) (fun c_8 => ?_) (fun c_8 => ?_)
  · have hf := im c_8 hf
    refine lv_iload_n hx hb dX4_mostOf_15 rfl (lv_at hl 0 rfl) ?_
    refine lv_bipush (v := 100) hx hb dX4_mostOf_16 (by decide) ?_
    refine lv_aload_n hx hb dX4_mostOf_18 rfl (lv_at hl 1 rfl) ?_
    refine lv_iload_n hx hb dX4_mostOf_19 rfl (lv_at hl 2 rfl) ?_
    refine lv_bipush (v := 6) hx hb dX4_mostOf_20 (by decide) ?_
    obtain ⟨v_3, ev_3, hf⟩ := ob hf
    refine tw_V (some (.int v_3)) (rs := [.int v_3, .int (100 : Int32), .int v_1]) (rest := [.int (100 : Int32), .int v_1]) (As := [.int x1, .int (6 : Int32)]) X I (mX4_of X.2.2.2.2.1 ev_3) lvX4_of hdX4_of ⟨Nat.le_trans (Nat.le_of_ble_eq_true rfl) hR.1, Nat.le_trans (Nat.le_of_ble_eq_true rfl) hR.2⟩ rfl hl.1 rfl (Nat.le_of_ble_eq_true rfl) rfl dX4_mostOf_22 (fun H locs cells slots I => ?_)
    refine lv_iadd hx hb dX4_mostOf_25 ?_
    refine lv_imul hx hb dX4_mostOf_26 ?_
    refine lv_bipush (v := 100) hx hb dX4_mostOf_27 (by decide) ?_
    refine lv_idiv hx hb dX4_mostOf_29 (by decide) ?_
    cases os hf
    exact r_iret X I dX4_mostOf_30
  · have hf := ip c_8 hf
    refine lv_iconst (v := (-1)) hx hb dX4_mostOf_11 (by decide) ?_
    refine lv_goto (tgt := 30) hx hb dX4_mostOf_12 (by decide) ?_
    cases os hf
    exact r_iret X I dX4_mostOf_30
theorem mX4_mostOf {E : EV} {l : Launch} {h : Nat} {S : St} {σ : TS} {x1 : Int32} {res : Int32} (hE : EK E) (hf : fX4_mostOf σ x1 = some res) : CM E l yX4_mostOf (ws_ yX4_mostOf cX4_mostOf 3 (some .int)) 2 43 [.ref h, .int x1] (twS h σ S) (some (.int res)) (twS h σ S) := by
  refine CM.of hE (by decide) rfl rfl (Nat.le_of_ble_eq_true rfl) ?_
  intro p e s m below meth c X I ls hl
  exact wX4_mostOf_0 ⟨Nat.le_refl _, Nat.le_refl _⟩ X _ _ _ _ _ _ I hl hf
/-! plans(I)Z -/
theorem lvX4_plans : GoodIn lw_all (wsV RX4 311 RX4 yX4_plans (ws_ yX4_plans cX4_plans 14 (some .boolean))) := lw_V q3041 q3043 qs76 q120 q3044
theorem hdX4_plans : yX4_plans.cls = RX4 ∧ yX4_plans.cls ≠ "java/lang/invoke/MethodHandle" ∧ yX4_plans.cls ≠ "java/lang/invoke/VarHandle" ∧ (parseMethodDescriptor yX4_plans.desc).map (fun d => d.parameters.length) = some 1 := by decide +kernel
theorem wX4_plans_459 {E : EV} {l : Launch} {p : Program} {e : Env} {s : State} {m : MethodId} {args : Array Value} {below : List Frame} {meth : Method} {c : Code} {R : Room} {h : Nat} {S : St} {res : (Int32 × TS)} (hR : 3 ≤ R.frames ∧ 65 ≤ R.locals) (X : MX E p s m args meth c cX4_plans 14 (some .boolean) RX4 "plans") (N : Nat) (r35 : Int32 → Int32 → Int32 → Int32 → Int32 → Int32 → Int32 → TS → Option (Int32 × TS)) (hr35 : ∀ (x1 : Int32) (x2 : Int32) (x3 : Int32) (x4 : Int32) (x5 : Int32) (x6 : Int32) (x7 : Int32) (σ : TS) (H : Heap) (locs : List Loc) (cells slots : Nat) (ls : Array Slot), WI E R s (twS h σ S) H locs cells slots → lv_has ls 14 [(0, .ref h), (1, .int x1), (2, .int x2), (3, .int x3), (4, .int x4), (5, .int x5), (6, .int x6), (7, .int x7)] → r35 x1 x2 x3 x4 x5 x6 x7 σ = some res → W p l e R s m args below meth c H locs cells slots (MQ below (Qd E R.cells R.slots (some (.int res.1)) (twS h res.2 S)) args s R.cells R.slots (fr E)) (F0 m 35 ls [])) : ∀ (x1 : Int32) (x4 : Int32) (x5 : Int32) (x6 : Int32) (x7 : Int32) (σ : TS) (H : Heap) (locs : List Loc) (cells slots : Nat) (ls : Array Slot), WI E R s (twS h σ S) H locs cells slots → lv_has ls 14 [(0, .ref h), (1, .int x1), (4, .int x4), (5, .int x5), (6, .int x6), (7, .int x7)] → fX4_plans_459 N r35 x1 x4 x5 x6 x7 σ = some res → W p l e R s m args below meth c H locs cells slots (MQ below (Qd E R.cells R.slots (some (.int res.1)) (twS h res.2 S)) args s R.cells R.slots (fr E)) (F0 m 459 ls []) := by
  intro x1 x4 x5 x6 x7 σ H locs cells slots ls I hl hf
  obtain ⟨⟨hx, hb, hml, hown, hts⟩, -⟩ := id X
  unfold fX4_plans_459 at hf
  refine lv_aload_n hx hb dX4_plans_459 rfl (lv_at hl 0 rfl) ?_
  refine tw_get X I 35 (v := .ref (h + 16)) (by decide) q2722 rfl dX4_plans_460 ?_
  refine lv_iload hx hb dX4_plans_463 (lv_at hl 5 rfl) ?_
  obtain ⟨v_1, ev_1, hf⟩ := ob hf
  refine tw_ald X I 16 (by decide) (by decide) (by decide) ev_1 dX4_plans_465 ?_
  refine lv_istore_n (lv' := [(3, .int v_1), (0, .ref h), (1, .int x1), (4, .int x4), (5, .int x5), (6, .int x6), (7, .int x7)]) hx hb dX4_plans_466 rfl hl (by decide) rfl (fun ls hl => ?_)
  refine lv_aload_n hx hb dX4_plans_467 rfl (lv_at hl 1 rfl) ?_
  refine lv_aload_n hx hb dX4_plans_468 rfl (lv_at hl 1 rfl) ?_
  refine tw_get X I 32 (v := .ref (h + 13)) (by decide) q2719 rfl dX4_plans_469 ?_
  refine lv_iload hx hb dX4_plans_472 (lv_at hl 6 rfl) ?_
  obtain ⟨v_2, ev_2, hf⟩ := ob hf
  refine tw_ald X I 13 (by decide) (by decide) (by decide) ev_2 dX4_plans_474 ?_
  obtain ⟨v_3, ev_3, hf⟩ := ob hf
  refine tw_V (some (.int v_3)) (rs := [.int v_3]) (rest := []) (As := [.int v_2]) X I (mX4_zoneOf X.2.2.2.2.1 ev_3) lvX4_zoneOf hdX4_zoneOf ⟨Nat.le_trans (Nat.le_of_ble_eq_true rfl) hR.1, Nat.le_trans (Nat.le_of_ble_eq_true rfl) hR.2⟩ rfl hl.1 rfl (Nat.le_of_ble_eq_true rfl) rfl dX4_plans_475 (fun H locs cells slots I => ?_)
  refine lv_istore_n (lv' := [(2, .int v_3), (3, .int v_1), (0, .ref h), (1, .int x1), (4, .int x4), (5, .int x5), (6, .int x6), (7, .int x7)]) hx hb dX4_plans_478 rfl hl (by decide) rfl (fun ls hl => ?_)
  obtain ⟨x7_5, ex7_5, hf⟩ := ol hf
  refine lv_iinc (v := x7_5) (lv' := [(7, .int x7_5), (2, .int v_3), (3, .int v_1), (0, .ref h), (1, .int x1), (4, .int x4), (5, .int x5), (6, .int x6)]) hx hb dX4_plans_479 hl (k := 7) rfl ex7_5 (by decide) rfl (fun ls hl => ?_)
  refine lv_goto (tgt := 35) hx hb dX4_plans_482 (by decide) ?_
  exact hr35 _ _ _ _ _ _ _ _ _ _ _ _ _ I (lv_sub hl [3, 4, 1, 2, 5, 6, 7, 0] rfl) hf
theorem wX4_plans_445 {E : EV} {l : Launch} {p : Program} {e : Env} {s : State} {m : MethodId} {args : Array Value} {below : List Frame} {meth : Method} {c : Code} {R : Room} {h : Nat} {S : St} {res : (Int32 × TS)} (hR : 3 ≤ R.frames ∧ 65 ≤ R.locals) (X : MX E p s m args meth c cX4_plans 14 (some .boolean) RX4 "plans") (N : Nat) (r35 : Int32 → Int32 → Int32 → Int32 → Int32 → Int32 → Int32 → TS → Option (Int32 × TS)) (hr35 : ∀ (x1 : Int32) (x2 : Int32) (x3 : Int32) (x4 : Int32) (x5 : Int32) (x6 : Int32) (x7 : Int32) (σ : TS) (H : Heap) (locs : List Loc) (cells slots : Nat) (ls : Array Slot), WI E R s (twS h σ S) H locs cells slots → lv_has ls 14 [(0, .ref h), (1, .int x1), (2, .int x2), (3, .int x3), (4, .int x4), (5, .int x5), (6, .int x6), (7, .int x7)] → r35 x1 x2 x3 x4 x5 x6 x7 σ = some res → W p l e R s m args below meth c H locs cells slots (MQ below (Qd E R.cells R.slots (some (.int res.1)) (twS h res.2 S)) args s R.cells R.slots (fr E)) (F0 m 35 ls [])) : ∀ (x1 : Int32) (x4 : Int32) (x5 : Int32) (x7 : Int32) (x8 : Int32) (y0 : Int32) (σ : TS) (H : Heap) (locs : List Loc) (cells slots : Nat) (ls : Array Slot), WI E R s (twS h σ S) H locs cells slots → lv_has ls 14 [(0, .ref h), (1, .int x1), (4, .int x4), (5, .int x5), (7, .int x7), (8, .int x8)] → fX4_plans_445 N r35 x1 x4 x5 x7 x8 y0 σ = some res → W p l e R s m args below meth c H locs cells slots (MQ below (Qd E R.cells R.slots (some (.int res.1)) (twS h res.2 S)) args s R.cells R.slots (fr E)) (F0 m 445 ls [.int y0]) := by
  intro x1 x4 x5 x7 x8 y0 σ H locs cells slots ls I hl hf
  obtain ⟨⟨hx, hb, hml, hown, hts⟩, -⟩ := id X
  unfold fX4_plans_445 at hf
  refine lv_istore (lv' := [(6, .int y0), (0, .ref h), (1, .int x1), (4, .int x4), (5, .int x5), (7, .int x7), (8, .int x8)]) hx hb dX4_plans_445 hl (by decide) rfl (fun ls hl => ?_)
  refine lv_iload hx hb dX4_plans_447 (lv_at hl 4 rfl) ?_
  refine lv_aload_n hx hb dX4_plans_449 rfl (lv_at hl 1 rfl) ?_
  refine lv_iload hx hb dX4_plans_450 (lv_at hl 6 rfl) ?_
  refine lv_iconst (v := 3) hx hb dX4_plans_452 (by decide) ?_
  obtain ⟨v_6, ev_6, hf⟩ := ob hf
  refine tw_V (some (.int v_6)) (rs := [.int v_6, .int x5]) (rest := [.int x5]) (As := [.int x8, .int (3 : Int32)]) X I (mX4_of X.2.2.2.2.1 ev_6) lvX4_of hdX4_of ⟨Nat.le_trans (Nat.le_of_ble_eq_true rfl) hR.1, Nat.le_trans (Nat.le_of_ble_eq_true rfl) hR.2⟩ rfl hl.1 rfl (Nat.le_of_ble_eq_true rfl) rfl dX4_plans_453 (fun H locs cells slots I => ?_)
  refine lv_isub hx hb dX4_plans_456 ?_
  obtain ⟨x5_8, ex5_8, hf⟩ := ol hf
  refine nm_i ex5_8 ?_
  refine lv_istore (lv' := [(5, .int x5_8), (6, .int y0), (0, .ref h), (1, .int x1), (4, .int x4), (7, .int x7), (8, .int x8)]) hx hb dX4_plans_457 hl (by decide) rfl (fun ls hl => ?_)
  exact wX4_plans_459 hR X N r35 hr35 _ _ _ _ _ _ _ _ _ _ _ I (lv_sub hl [2, 3, 4, 0, 1, 5] rfl) hf
theorem wX4_plans_444 {E : EV} {l : Launch} {p : Program} {e : Env} {s : State} {m : MethodId} {args : Array Value} {below : List Frame} {meth : Method} {c : Code} {R : Room} {h : Nat} {S : St} {res : (Int32 × TS)} (hR : 3 ≤ R.frames ∧ 65 ≤ R.locals) (X : MX E p s m args meth c cX4_plans 14 (some .boolean) RX4 "plans") (N : Nat) (r35 : Int32 → Int32 → Int32 → Int32 → Int32 → Int32 → Int32 → TS → Option (Int32 × TS)) (hr35 : ∀ (x1 : Int32) (x2 : Int32) (x3 : Int32) (x4 : Int32) (x5 : Int32) (x6 : Int32) (x7 : Int32) (σ : TS) (H : Heap) (locs : List Loc) (cells slots : Nat) (ls : Array Slot), WI E R s (twS h σ S) H locs cells slots → lv_has ls 14 [(0, .ref h), (1, .int x1), (2, .int x2), (3, .int x3), (4, .int x4), (5, .int x5), (6, .int x6), (7, .int x7)] → r35 x1 x2 x3 x4 x5 x6 x7 σ = some res → W p l e R s m args below meth c H locs cells slots (MQ below (Qd E R.cells R.slots (some (.int res.1)) (twS h res.2 S)) args s R.cells R.slots (fr E)) (F0 m 35 ls [])) : ∀ (x1 : Int32) (x4 : Int32) (x5 : Int32) (x7 : Int32) (x8 : Int32) (σ : TS) (H : Heap) (locs : List Loc) (cells slots : Nat) (ls : Array Slot), WI E R s (twS h σ S) H locs cells slots → lv_has ls 14 [(0, .ref h), (1, .int x1), (4, .int x4), (5, .int x5), (7, .int x7), (8, .int x8)] → fX4_plans_444 N r35 x1 x4 x5 x7 x8 σ = some res → W p l e R s m args below meth c H locs cells slots (MQ below (Qd E R.cells R.slots (some (.int res.1)) (twS h res.2 S)) args s R.cells R.slots (fr E)) (F0 m 444 ls []) := by
  intro x1 x4 x5 x7 x8 σ H locs cells slots ls I hl hf
  obtain ⟨⟨hx, hb, hml, hown, hts⟩, -⟩ := id X
  unfold fX4_plans_444 at hf
  refine lv_iconst (v := 0) hx hb dX4_plans_444 (by decide) ?_
  exact wX4_plans_445 hR X N r35 hr35 _ _ _ _ _ _ _ _ _ _ _ _ I (lv_sub hl [0, 1, 2, 3, 4, 5] rfl) hf
theorem wX4_plans_414 {E : EV} {l : Launch} {p : Program} {e : Env} {s : State} {m : MethodId} {args : Array Value} {below : List Frame} {meth : Method} {c : Code} {R : Room} {h : Nat} {S : St} {res : (Int32 × TS)} (hR : 3 ≤ R.frames ∧ 65 ≤ R.locals) (X : MX E p s m args meth c cX4_plans 14 (some .boolean) RX4 "plans") (N : Nat) (r35 : Int32 → Int32 → Int32 → Int32 → Int32 → Int32 → Int32 → TS → Option (Int32 × TS)) (hr35 : ∀ (x1 : Int32) (x2 : Int32) (x3 : Int32) (x4 : Int32) (x5 : Int32) (x6 : Int32) (x7 : Int32) (σ : TS) (H : Heap) (locs : List Loc) (cells slots : Nat) (ls : Array Slot), WI E R s (twS h σ S) H locs cells slots → lv_has ls 14 [(0, .ref h), (1, .int x1), (2, .int x2), (3, .int x3), (4, .int x4), (5, .int x5), (6, .int x6), (7, .int x7)] → r35 x1 x2 x3 x4 x5 x6 x7 σ = some res → W p l e R s m args below meth c H locs cells slots (MQ below (Qd E R.cells R.slots (some (.int res.1)) (twS h res.2 S)) args s R.cells R.slots (fr E)) (F0 m 35 ls [])) : ∀ (x1 : Int32) (x4 : Int32) (x5 : Int32) (x6 : Int32) (x7 : Int32) (x8 : Int32) (y0 : Int32) (σ : TS) (H : Heap) (locs : List Loc) (cells slots : Nat) (ls : Array Slot), WI E R s (twS h σ S) H locs cells slots → lv_has ls 14 [(0, .ref h), (1, .int x1), (4, .int x4), (5, .int x5), (6, .int x6), (7, .int x7), (8, .int x8)] → fX4_plans_414 N r35 x1 x4 x5 x6 x7 x8 y0 σ = some res → W p l e R s m args below meth c H locs cells slots (MQ below (Qd E R.cells R.slots (some (.int res.1)) (twS h res.2 S)) args s R.cells R.slots (fr E)) (F0 m 414 ls [.int y0]) := by
  intro x1 x4 x5 x6 x7 x8 y0 σ H locs cells slots ls I hl hf
  obtain ⟨⟨hx, hb, hml, hown, hts⟩, -⟩ := id X
  unfold fX4_plans_414 at hf
  refine lv_istore (lv' := [(13, .int y0), (0, .ref h), (1, .int x1), (4, .int x4), (5, .int x5), (6, .int x6), (7, .int x7), (8, .int x8)]) hx hb dX4_plans_414 hl (by decide) rfl (fun ls hl => ?_)
  refine lv_iload hx hb dX4_plans_416 (lv_at hl 5 rfl) ?_
  refine lv_if_eq (tgt := 444) hx hb dX4_plans_418 (by decide) (fun c_418 => ?_) (fun c_418 => ?_)
  · have hf := ip c_418 hf
    exact wX4_plans_444 hR X N r35 hr35 _ _ _ _ _ _ _ _ _ _ _ I (lv_sub hl [1, 2, 3, 4, 6, 7] rfl) hf
  · have hf := im c_418 hf
    refine lv_aload_n hx hb dX4_plans_421 rfl (lv_at hl 1 rfl) ?_
    refine tw_get X I 34 (v := .ref (h + 15)) (by decide) q2721 rfl dX4_plans_422 ?_
    refine lv_iload hx hb dX4_plans_425 (lv_at hl 6 rfl) ?_
    obtain ⟨v_9, ev_9, hf⟩ := ob hf
    refine tw_ald X I 15 (by decide) (by decide) (by decide) ev_9 dX4_plans_427 ?_
    refine lv_iload hx hb dX4_plans_428 (lv_at hl 0 rfl) ?_
    refine lv_aload_n hx hb dX4_plans_430 rfl (lv_at hl 1 rfl) ?_
    refine lv_iload hx hb dX4_plans_431 (lv_at hl 7 rfl) ?_
    obtain ⟨v_10, ev_10, hf⟩ := ob hf
    refine tw_V (some (.int v_10)) (rs := [.int v_10, .int y0, .int v_9]) (rest := [.int y0, .int v_9]) (As := [.int x8]) X I (mX4_mostOf X.2.2.2.2.1 ev_10) lvX4_mostOf hdX4_mostOf ⟨Nat.le_trans (Nat.le_of_ble_eq_true rfl) hR.1, Nat.le_trans (Nat.le_of_ble_eq_true rfl) hR.2⟩ rfl hl.1 rfl (Nat.le_of_ble_eq_true rfl) rfl dX4_plans_433 (fun H locs cells slots I => ?_)
    refine lv_iadd hx hb dX4_plans_436 ?_
    refine lv_icmp_gt (tgt := 444) hx hb dX4_plans_437 (by decide) (fun c_437 => ?_) (fun c_437 => ?_)
    · have hf := ip c_437 hf
      exact wX4_plans_444 hR X N r35 hr35 _ _ _ _ _ _ _ _ _ _ _ I (lv_sub hl [1, 2, 3, 4, 6, 7] rfl) hf
    · have hf := im c_437 hf
      refine lv_iconst (v := 1) hx hb dX4_plans_440 (by decide) ?_
      refine lv_goto (tgt := 445) hx hb dX4_plans_441 (by decide) ?_
      exact wX4_plans_445 hR X N r35 hr35 _ _ _ _ _ _ _ _ _ _ _ _ I (lv_sub hl [1, 2, 3, 4, 6, 7] rfl) hf
theorem wX4_plans_379 {E : EV} {l : Launch} {p : Program} {e : Env} {s : State} {m : MethodId} {args : Array Value} {below : List Frame} {meth : Method} {c : Code} {R : Room} {h : Nat} {S : St} {res : (Int32 × TS)} (hR : 3 ≤ R.frames ∧ 65 ≤ R.locals) (X : MX E p s m args meth c cX4_plans 14 (some .boolean) RX4 "plans") (N : Nat) (r35 : Int32 → Int32 → Int32 → Int32 → Int32 → Int32 → Int32 → TS → Option (Int32 × TS)) (hr35 : ∀ (x1 : Int32) (x2 : Int32) (x3 : Int32) (x4 : Int32) (x5 : Int32) (x6 : Int32) (x7 : Int32) (σ : TS) (H : Heap) (locs : List Loc) (cells slots : Nat) (ls : Array Slot), WI E R s (twS h σ S) H locs cells slots → lv_has ls 14 [(0, .ref h), (1, .int x1), (2, .int x2), (3, .int x3), (4, .int x4), (5, .int x5), (6, .int x6), (7, .int x7)] → r35 x1 x2 x3 x4 x5 x6 x7 σ = some res → W p l e R s m args below meth c H locs cells slots (MQ below (Qd E R.cells R.slots (some (.int res.1)) (twS h res.2 S)) args s R.cells R.slots (fr E)) (F0 m 35 ls [])) : ∀ (x1 : Int32) (x4 : Int32) (x6 : Int32) (x7 : Int32) (y0 : Int32) (y1 : Int32) (σ : TS) (H : Heap) (locs : List Loc) (cells slots : Nat) (ls : Array Slot), WI E R s (twS h σ S) H locs cells slots → lv_has ls 14 [(0, .ref h), (1, .int x1), (4, .int x4), (6, .int x6), (7, .int x7)] → fX4_plans_379 N r35 x1 x4 x6 x7 y0 y1 σ = some res → W p l e R s m args below meth c H locs cells slots (MQ below (Qd E R.cells R.slots (some (.int res.1)) (twS h res.2 S)) args s R.cells R.slots (fr E)) (F0 m 379 ls [.int y1, .int y0]) := by
  intro x1 x4 x6 x7 y0 y1 σ H locs cells slots ls I hl hf
  obtain ⟨⟨hx, hb, hml, hown, hts⟩, -⟩ := id X
  unfold fX4_plans_379 at hf
  refine lv_iadd hx hb dX4_plans_379 ?_
  obtain ⟨x5_12, ex5_12, hf⟩ := ol hf
  refine nm_i ex5_12 ?_
  refine lv_istore (lv' := [(5, .int x5_12), (0, .ref h), (1, .int x1), (4, .int x4), (6, .int x6), (7, .int x7)]) hx hb dX4_plans_380 hl (by decide) rfl (fun ls hl => ?_)
  refine lv_goto (tgt := 459) hx hb dX4_plans_382 (by decide) ?_
  exact wX4_plans_459 hR X N r35 hr35 _ _ _ _ _ _ _ _ _ _ _ I (lv_sub hl [1, 2, 3, 0, 4, 5] rfl) hf
theorem wX4_plans_345 {E : EV} {l : Launch} {p : Program} {e : Env} {s : State} {m : MethodId} {args : Array Value} {below : List Frame} {meth : Method} {c : Code} {R : Room} {h : Nat} {S : St} {res : (Int32 × TS)} (hR : 3 ≤ R.frames ∧ 65 ≤ R.locals) (X : MX E p s m args meth c cX4_plans 14 (some .boolean) RX4 "plans") (N : Nat) (r35 : Int32 → Int32 → Int32 → Int32 → Int32 → Int32 → Int32 → TS → Option (Int32 × TS)) (hr35 : ∀ (x1 : Int32) (x2 : Int32) (x3 : Int32) (x4 : Int32) (x5 : Int32) (x6 : Int32) (x7 : Int32) (σ : TS) (H : Heap) (locs : List Loc) (cells slots : Nat) (ls : Array Slot), WI E R s (twS h σ S) H locs cells slots → lv_has ls 14 [(0, .ref h), (1, .int x1), (2, .int x2), (3, .int x3), (4, .int x4), (5, .int x5), (6, .int x6), (7, .int x7)] → r35 x1 x2 x3 x4 x5 x6 x7 σ = some res → W p l e R s m args below meth c H locs cells slots (MQ below (Qd E R.cells R.slots (some (.int res.1)) (twS h res.2 S)) args s R.cells R.slots (fr E)) (F0 m 35 ls [])) : ∀ (x1 : Int32) (x4 : Int32) (x5 : Int32) (x7 : Int32) (x8 : Int32) (x12 : Int32) (y0 : Int32) (σ : TS) (H : Heap) (locs : List Loc) (cells slots : Nat) (ls : Array Slot), WI E R s (twS h σ S) H locs cells slots → lv_has ls 14 [(0, .ref h), (1, .int x1), (4, .int x4), (5, .int x5), (7, .int x7), (8, .int x8), (12, .int x12)] → fX4_plans_345 N r35 x1 x4 x5 x7 x8 x12 y0 σ = some res → W p l e R s m args below meth c H locs cells slots (MQ below (Qd E R.cells R.slots (some (.int res.1)) (twS h res.2 S)) args s R.cells R.slots (fr E)) (F0 m 345 ls [.int y0]) := by
  intro x1 x4 x5 x7 x8 x12 y0 σ H locs cells slots ls I hl hf
  obtain ⟨⟨hx, hb, hml, hown, hts⟩, -⟩ := id X
  unfold fX4_plans_345 at hf
  refine lv_istore (lv' := [(6, .int y0), (0, .ref h), (1, .int x1), (4, .int x4), (5, .int x5), (7, .int x7), (8, .int x8), (12, .int x12)]) hx hb dX4_plans_345 hl (by decide) rfl (fun ls hl => ?_)
  refine lv_aload_n hx hb dX4_plans_347 rfl (lv_at hl 1 rfl) ?_
  refine tw_get X I 38 (v := .ref (h + 19)) (by decide) q2725 rfl dX4_plans_348 ?_
  refine lv_iload hx hb dX4_plans_351 (lv_at hl 6 rfl) ?_
  refine lv_aload_n hx hb dX4_plans_353 rfl (lv_at hl 1 rfl) ?_
  refine tw_get X I 35 (v := .ref (h + 16)) (by decide) q2722 rfl dX4_plans_354 ?_
  refine lv_iload hx hb dX4_plans_357 (lv_at hl 5 rfl) ?_
  obtain ⟨v_13, ev_13, hf⟩ := ob hf
  refine tw_ald X I 16 (by decide) (by decide) (by decide) ev_13 dX4_plans_359 ?_
  obtain ⟨σ_14, eσ_14, hf⟩ := ob hf
  refine tw_ast X I 19 (by decide) (by decide) (by decide) eσ_14 dX4_plans_360 (fun H locs I => ?_)
  refine lv_iload hx hb dX4_plans_361 (lv_at hl 4 rfl) ?_
  refine lv_iload hx hb dX4_plans_363 (lv_at hl 7 rfl) ?_
  refine lv_if_eq (tgt := 372) hx hb dX4_plans_365 (by decide) (fun c_365 => ?_) (fun c_365 => ?_)
  · have hf := ip c_365 hf
    refine lv_aload_n hx hb dX4_plans_372 rfl (lv_at hl 1 rfl) ?_
    refine lv_iload hx hb dX4_plans_373 (lv_at hl 6 rfl) ?_
    refine lv_iconst (v := 3) hx hb dX4_plans_375 (by decide) ?_
    obtain ⟨v_15, ev_15, hf⟩ := ob hf
    refine tw_V (some (.int v_15)) (rs := [.int v_15, .int x5]) (rest := [.int x5]) (As := [.int x8, .int (3 : Int32)]) X I (mX4_of X.2.2.2.2.1 ev_15) lvX4_of hdX4_of ⟨Nat.le_trans (Nat.le_of_ble_eq_true rfl) hR.1, Nat.le_trans (Nat.le_of_ble_eq_true rfl) hR.2⟩ rfl hl.1 rfl (Nat.le_of_ble_eq_true rfl) rfl dX4_plans_376 (fun H locs cells slots I => ?_)
    exact wX4_plans_379 hR X N r35 hr35 _ _ _ _ _ _ _ _ _ _ _ _ I (lv_sub hl [1, 2, 3, 0, 5] rfl) hf
  · have hf := im c_365 hf
    refine lv_iconst (v := 0) hx hb dX4_plans_368 (by decide) ?_
    refine lv_goto (tgt := 379) hx hb dX4_plans_369 (by decide) ?_
    exact wX4_plans_379 hR X N r35 hr35 _ _ _ _ _ _ _ _ _ _ _ _ I (lv_sub hl [1, 2, 3, 0, 5] rfl) hf
theorem wX4_plans_344 {E : EV} {l : Launch} {p : Program} {e : Env} {s : State} {m : MethodId} {args : Array Value} {below : List Frame} {meth : Method} {c : Code} {R : Room} {h : Nat} {S : St} {res : (Int32 × TS)} (hR : 3 ≤ R.frames ∧ 65 ≤ R.locals) (X : MX E p s m args meth c cX4_plans 14 (some .boolean) RX4 "plans") (N : Nat) (r35 : Int32 → Int32 → Int32 → Int32 → Int32 → Int32 → Int32 → TS → Option (Int32 × TS)) (hr35 : ∀ (x1 : Int32) (x2 : Int32) (x3 : Int32) (x4 : Int32) (x5 : Int32) (x6 : Int32) (x7 : Int32) (σ : TS) (H : Heap) (locs : List Loc) (cells slots : Nat) (ls : Array Slot), WI E R s (twS h σ S) H locs cells slots → lv_has ls 14 [(0, .ref h), (1, .int x1), (2, .int x2), (3, .int x3), (4, .int x4), (5, .int x5), (6, .int x6), (7, .int x7)] → r35 x1 x2 x3 x4 x5 x6 x7 σ = some res → W p l e R s m args below meth c H locs cells slots (MQ below (Qd E R.cells R.slots (some (.int res.1)) (twS h res.2 S)) args s R.cells R.slots (fr E)) (F0 m 35 ls [])) : ∀ (x1 : Int32) (x4 : Int32) (x5 : Int32) (x7 : Int32) (x8 : Int32) (x12 : Int32) (σ : TS) (H : Heap) (locs : List Loc) (cells slots : Nat) (ls : Array Slot), WI E R s (twS h σ S) H locs cells slots → lv_has ls 14 [(0, .ref h), (1, .int x1), (4, .int x4), (5, .int x5), (7, .int x7), (8, .int x8), (12, .int x12)] → fX4_plans_344 N r35 x1 x4 x5 x7 x8 x12 σ = some res → W p l e R s m args below meth c H locs cells slots (MQ below (Qd E R.cells R.slots (some (.int res.1)) (twS h res.2 S)) args s R.cells R.slots (fr E)) (F0 m 344 ls []) := by
  intro x1 x4 x5 x7 x8 x12 σ H locs cells slots ls I hl hf
  obtain ⟨⟨hx, hb, hml, hown, hts⟩, -⟩ := id X
  unfold fX4_plans_344 at hf
  refine lv_iconst (v := 0) hx hb dX4_plans_344 (by decide) ?_
  exact wX4_plans_345 hR X N r35 hr35 _ _ _ _ _ _ _ _ _ _ _ _ _ I (lv_sub hl [0, 1, 2, 3, 4, 5, 6] rfl) hf
theorem wX4_plans_311 {E : EV} {l : Launch} {p : Program} {e : Env} {s : State} {m : MethodId} {args : Array Value} {below : List Frame} {meth : Method} {c : Code} {R : Room} {h : Nat} {S : St} {res : (Int32 × TS)} (hR : 3 ≤ R.frames ∧ 65 ≤ R.locals) (X : MX E p s m args meth c cX4_plans 14 (some .boolean) RX4 "plans") (N : Nat) (r35 : Int32 → Int32 → Int32 → Int32 → Int32 → Int32 → Int32 → TS → Option (Int32 × TS)) (hr35 : ∀ (x1 : Int32) (x2 : Int32) (x3 : Int32) (x4 : Int32) (x5 : Int32) (x6 : Int32) (x7 : Int32) (σ : TS) (H : Heap) (locs : List Loc) (cells slots : Nat) (ls : Array Slot), WI E R s (twS h σ S) H locs cells slots → lv_has ls 14 [(0, .ref h), (1, .int x1), (2, .int x2), (3, .int x3), (4, .int x4), (5, .int x5), (6, .int x6), (7, .int x7)] → r35 x1 x2 x3 x4 x5 x6 x7 σ = some res → W p l e R s m args below meth c H locs cells slots (MQ below (Qd E R.cells R.slots (some (.int res.1)) (twS h res.2 S)) args s R.cells R.slots (fr E)) (F0 m 35 ls [])) : ∀ (x1 : Int32) (x4 : Int32) (x5 : Int32) (x7 : Int32) (x8 : Int32) (x9 : Int32) (x12 : Int32) (y0 : Int32) (σ : TS) (H : Heap) (locs : List Loc) (cells slots : Nat) (ls : Array Slot), WI E R s (twS h σ S) H locs cells slots → lv_has ls 14 [(0, .ref h), (1, .int x1), (4, .int x4), (5, .int x5), (7, .int x7), (8, .int x8), (9, .int x9), (12, .int x12)] → fX4_plans_311 N r35 x1 x4 x5 x7 x8 x9 x12 y0 σ = some res → W p l e R s m args below meth c H locs cells slots (MQ below (Qd E R.cells R.slots (some (.int res.1)) (twS h res.2 S)) args s R.cells R.slots (fr E)) (F0 m 311 ls [.int y0]) := by
  intro x1 x4 x5 x7 x8 x9 x12 y0 σ H locs cells slots ls I hl hf
  obtain ⟨⟨hx, hb, hml, hown, hts⟩, -⟩ := id X
  unfold fX4_plans_311 at hf
  refine lv_istore (lv' := [(6, .int y0), (0, .ref h), (1, .int x1), (4, .int x4), (5, .int x5), (7, .int x7), (8, .int x8), (9, .int x9), (12, .int x12)]) hx hb dX4_plans_311 hl (by decide) rfl (fun ls hl => ?_)
  refine lv_iload hx hb dX4_plans_313 (lv_at hl 7 rfl) ?_
  refine lv_if_eq (tgt := 385) hx hb dX4_plans_315 (by decide) (fun c_315 => ?_) (fun c_315 => ?_)
  · have hf := ip c_315 hf
    refine lv_aload_n hx hb dX4_plans_385 rfl (lv_at hl 1 rfl) ?_
    refine lv_iload hx hb dX4_plans_386 (lv_at hl 6 rfl) ?_
    refine lv_iconst (v := 0) hx hb dX4_plans_388 (by decide) ?_
    obtain ⟨v_17, ev_17, hf⟩ := ob hf
    refine tw_V (some (.int v_17)) (rs := [.int v_17]) (rest := []) (As := [.int x8, .int (0 : Int32)]) X I (mX4_of X.2.2.2.2.1 ev_17) lvX4_of hdX4_of ⟨Nat.le_trans (Nat.le_of_ble_eq_true rfl) hR.1, Nat.le_trans (Nat.le_of_ble_eq_true rfl) hR.2⟩ rfl hl.1 rfl (Nat.le_of_ble_eq_true rfl) rfl dX4_plans_389 (fun H locs cells slots I => ?_)
    refine lv_iconst (v := 2) hx hb dX4_plans_392 (by decide) ?_
    refine lv_icmp_ne (tgt := 407) hx hb dX4_plans_393 (by decide) (fun c_393 => ?_) (fun c_393 => ?_)
    · have hf := im c_393 hf
      refine lv_aload_n hx hb dX4_plans_407 rfl (lv_at hl 1 rfl) ?_
      refine tw_get X I 38 (v := .ref (h + 19)) (by decide) q2725 rfl dX4_plans_408 ?_
      refine lv_iload hx hb dX4_plans_411 (lv_at hl 6 rfl) ?_
      obtain ⟨v_19, ev_19, hf⟩ := ob hf
      refine tw_ald X I 19 (by decide) (by decide) (by decide) ev_19 dX4_plans_413 ?_
      exact wX4_plans_414 hR X N r35 hr35 _ _ _ _ _ _ _ _ _ _ _ _ _ I (lv_sub hl [1, 2, 3, 4, 0, 5, 6] rfl) hf
    · have hf := ip c_393 hf
      refine lv_aload_n hx hb dX4_plans_396 rfl (lv_at hl 1 rfl) ?_
      refine lv_iload hx hb dX4_plans_397 (lv_at hl 6 rfl) ?_
      refine lv_bipush (v := 8) hx hb dX4_plans_399 (by decide) ?_
      obtain ⟨v_20, ev_20, hf⟩ := ob hf
      refine tw_V (some (.int v_20)) (rs := [.int v_20]) (rest := []) (As := [.int x8, .int (8 : Int32)]) X I (mX4_of X.2.2.2.2.1 ev_20) lvX4_of hdX4_of ⟨Nat.le_trans (Nat.le_of_ble_eq_true rfl) hR.1, Nat.le_trans (Nat.le_of_ble_eq_true rfl) hR.2⟩ rfl hl.1 rfl (Nat.le_of_ble_eq_true rfl) rfl dX4_plans_401 (fun H locs cells slots I => ?_)
      refine lv_goto (tgt := 414) hx hb dX4_plans_404 (by decide) ?_
      exact wX4_plans_414 hR X N r35 hr35 _ _ _ _ _ _ _ _ _ _ _ _ _ I (lv_sub hl [1, 2, 3, 4, 0, 5, 6] rfl) hf
  · have hf := im c_315 hf
    refine lv_iload hx hb dX4_plans_318 (lv_at hl 0 rfl) ?_
    refine lv_if_eq (tgt := 344) hx hb dX4_plans_320 (by decide) (fun c_320 => ?_) (fun c_320 => ?_)
    · have hf := ip c_320 hf
      exact wX4_plans_344 hR X N r35 hr35 _ _ _ _ _ _ _ _ _ _ _ _ I (lv_sub hl [1, 2, 3, 4, 5, 6, 8] rfl) hf
    · have hf := im c_320 hf
      refine lv_aload_n hx hb dX4_plans_323 rfl (lv_at hl 1 rfl) ?_
      refine tw_get X I 34 (v := .ref (h + 15)) (by decide) q2721 rfl dX4_plans_324 ?_
      refine lv_iload hx hb dX4_plans_327 (lv_at hl 5 rfl) ?_
      obtain ⟨v_22, ev_22, hf⟩ := ob hf
      refine tw_ald X I 15 (by decide) (by decide) (by decide) ev_22 dX4_plans_329 ?_
      refine lv_aload_n hx hb dX4_plans_330 rfl (lv_at hl 1 rfl) ?_
      refine lv_iload hx hb dX4_plans_331 (lv_at hl 6 rfl) ?_
      refine lv_iconst (v := 5) hx hb dX4_plans_333 (by decide) ?_
      obtain ⟨v_23, ev_23, hf⟩ := ob hf
      refine tw_V (some (.int v_23)) (rs := [.int v_23, .int v_22]) (rest := [.int v_22]) (As := [.int x8, .int (5 : Int32)]) X I (mX4_of X.2.2.2.2.1 ev_23) lvX4_of hdX4_of ⟨Nat.le_trans (Nat.le_of_ble_eq_true rfl) hR.1, Nat.le_trans (Nat.le_of_ble_eq_true rfl) hR.2⟩ rfl hl.1 rfl (Nat.le_of_ble_eq_true rfl) rfl dX4_plans_334 (fun H locs cells slots I => ?_)
      refine lv_icmp_gt (tgt := 344) hx hb dX4_plans_337 (by decide) (fun c_337 => ?_) (fun c_337 => ?_)
      · have hf := ip c_337 hf
        exact wX4_plans_344 hR X N r35 hr35 _ _ _ _ _ _ _ _ _ _ _ _ I (lv_sub hl [1, 2, 3, 4, 5, 6, 8] rfl) hf
      · have hf := im c_337 hf
        refine lv_iconst (v := 1) hx hb dX4_plans_340 (by decide) ?_
        refine lv_goto (tgt := 345) hx hb dX4_plans_341 (by decide) ?_
        exact wX4_plans_345 hR X N r35 hr35 _ _ _ _ _ _ _ _ _ _ _ _ _ I (lv_sub hl [1, 2, 3, 4, 5, 6, 8] rfl) hf
theorem wX4_plans_310 {E : EV} {l : Launch} {p : Program} {e : Env} {s : State} {m : MethodId} {args : Array Value} {below : List Frame} {meth : Method} {c : Code} {R : Room} {h : Nat} {S : St} {res : (Int32 × TS)} (hR : 3 ≤ R.frames ∧ 65 ≤ R.locals) (X : MX E p s m args meth c cX4_plans 14 (some .boolean) RX4 "plans") (N : Nat) (r35 : Int32 → Int32 → Int32 → Int32 → Int32 → Int32 → Int32 → TS → Option (Int32 × TS)) (hr35 : ∀ (x1 : Int32) (x2 : Int32) (x3 : Int32) (x4 : Int32) (x5 : Int32) (x6 : Int32) (x7 : Int32) (σ : TS) (H : Heap) (locs : List Loc) (cells slots : Nat) (ls : Array Slot), WI E R s (twS h σ S) H locs cells slots → lv_has ls 14 [(0, .ref h), (1, .int x1), (2, .int x2), (3, .int x3), (4, .int x4), (5, .int x5), (6, .int x6), (7, .int x7)] → r35 x1 x2 x3 x4 x5 x6 x7 σ = some res → W p l e R s m args below meth c H locs cells slots (MQ below (Qd E R.cells R.slots (some (.int res.1)) (twS h res.2 S)) args s R.cells R.slots (fr E)) (F0 m 35 ls [])) : ∀ (x1 : Int32) (x4 : Int32) (x5 : Int32) (x7 : Int32) (x8 : Int32) (x9 : Int32) (x12 : Int32) (σ : TS) (H : Heap) (locs : List Loc) (cells slots : Nat) (ls : Array Slot), WI E R s (twS h σ S) H locs cells slots → lv_has ls 14 [(0, .ref h), (1, .int x1), (4, .int x4), (5, .int x5), (7, .int x7), (8, .int x8), (9, .int x9), (12, .int x12)] → fX4_plans_310 N r35 x1 x4 x5 x7 x8 x9 x12 σ = some res → W p l e R s m args below meth c H locs cells slots (MQ below (Qd E R.cells R.slots (some (.int res.1)) (twS h res.2 S)) args s R.cells R.slots (fr E)) (F0 m 310 ls []) := by
  intro x1 x4 x5 x7 x8 x9 x12 σ H locs cells slots ls I hl hf
  obtain ⟨⟨hx, hb, hml, hown, hts⟩, -⟩ := id X
  unfold fX4_plans_310 at hf
  refine lv_iconst (v := 0) hx hb dX4_plans_310 (by decide) ?_
  exact wX4_plans_311 hR X N r35 hr35 _ _ _ _ _ _ _ _ _ _ _ _ _ _ I (lv_sub hl [0, 1, 2, 3, 4, 5, 6, 7] rfl) hf
theorem wX4_plans_257 {E : EV} {l : Launch} {p : Program} {e : Env} {s : State} {m : MethodId} {args : Array Value} {below : List Frame} {meth : Method} {c : Code} {R : Room} {h : Nat} {S : St} {res : (Int32 × TS)} (hR : 3 ≤ R.frames ∧ 65 ≤ R.locals) (X : MX E p s m args meth c cX4_plans 14 (some .boolean) RX4 "plans") (N : Nat) (r35 : Int32 → Int32 → Int32 → Int32 → Int32 → Int32 → Int32 → TS → Option (Int32 × TS)) (hr35 : ∀ (x1 : Int32) (x2 : Int32) (x3 : Int32) (x4 : Int32) (x5 : Int32) (x6 : Int32) (x7 : Int32) (σ : TS) (H : Heap) (locs : List Loc) (cells slots : Nat) (ls : Array Slot), WI E R s (twS h σ S) H locs cells slots → lv_has ls 14 [(0, .ref h), (1, .int x1), (2, .int x2), (3, .int x3), (4, .int x4), (5, .int x5), (6, .int x6), (7, .int x7)] → r35 x1 x2 x3 x4 x5 x6 x7 σ = some res → W p l e R s m args below meth c H locs cells slots (MQ below (Qd E R.cells R.slots (some (.int res.1)) (twS h res.2 S)) args s R.cells R.slots (fr E)) (F0 m 35 ls [])) : ∀ (x1 : Int32) (x4 : Int32) (x5 : Int32) (x6 : Int32) (x7 : Int32) (x8 : Int32) (x9 : Int32) (x10 : Int32) (x12 : Int32) (y1 : Int32) (y2 : Int32) (y4 : Int32) (σ : TS) (H : Heap) (locs : List Loc) (cells slots : Nat) (ls : Array Slot), WI E R s (twS h σ S) H locs cells slots → lv_has ls 14 [(0, .ref h), (1, .int x1), (4, .int x4), (5, .int x5), (6, .int x6), (7, .int x7), (8, .int x8), (9, .int x9), (10, .int x10), (12, .int x12)] → fX4_plans_257 N r35 x1 x4 x5 x6 x7 x8 x9 x10 x12 y1 y2 y4 σ = some res → W p l e R s m args below meth c H locs cells slots (MQ below (Qd E R.cells R.slots (some (.int res.1)) (twS h res.2 S)) args s R.cells R.slots (fr E)) (F0 m 257 ls [.int y4, .ref h, .int y2, .int y1, .ref (h + 16)]) := by
  intro x1 x4 x5 x6 x7 x8 x9 x10 x12 y1 y2 y4 σ H locs cells slots ls I hl hf
  obtain ⟨⟨hx, hb, hml, hown, hts⟩, -⟩ := id X
  unfold fX4_plans_257 at hf
  obtain ⟨v_25, ev_25, hf⟩ := ob hf
  refine tw_V (some (.int v_25)) (rs := [.int v_25, .int y2, .int y1, .ref (h + 16)]) (rest := [.int y2, .int y1, .ref (h + 16)]) (As := [.int y4]) X I (mX4_ruled X.2.2.2.2.1 ev_25) lvX4_ruled hdX4_ruled ⟨Nat.le_trans (Nat.le_of_ble_eq_true rfl) hR.1, Nat.le_trans (Nat.le_of_ble_eq_true rfl) hR.2⟩ rfl hl.1 rfl (Nat.le_of_ble_eq_true rfl) rfl dX4_plans_257 (fun H locs cells slots I => ?_)
  refine lv_iadd hx hb dX4_plans_260 ?_
  obtain ⟨σ_27, eσ_27, hf⟩ := ob hf
  refine tw_ast X I 16 (by decide) (by decide) (by decide) eσ_27 dX4_plans_261 (fun H locs I => ?_)
  refine lv_aload_n hx hb dX4_plans_262 rfl (lv_at hl 0 rfl) ?_
  refine tw_get X I 36 (v := .ref (h + 17)) (by decide) q2723 rfl dX4_plans_263 ?_
  refine lv_iload hx hb dX4_plans_266 (lv_at hl 5 rfl) ?_
  refine lv_iload hx hb dX4_plans_268 (lv_at hl 2 rfl) ?_
  obtain ⟨σ_28, eσ_28, hf⟩ := ob hf
  refine tw_ast X I 17 (by decide) (by decide) (by decide) eσ_28 dX4_plans_270 (fun H locs I => ?_)
  refine lv_aload_n hx hb dX4_plans_271 rfl (lv_at hl 0 rfl) ?_
  refine tw_get X I 37 (v := .ref (h + 18)) (by decide) q2724 rfl dX4_plans_272 ?_
  refine lv_iload hx hb dX4_plans_275 (lv_at hl 5 rfl) ?_
  refine lv_iload hx hb dX4_plans_277 (lv_at hl 8 rfl) ?_
  obtain ⟨σ_29, eσ_29, hf⟩ := ob hf
  refine tw_ast X I 18 (by decide) (by decide) (by decide) eσ_29 dX4_plans_279 (fun H locs I => ?_)
  refine lv_iload hx hb dX4_plans_280 (lv_at hl 4 rfl) ?_
  refine lv_if_eq (tgt := 310) hx hb dX4_plans_282 (by decide) (fun c_282 => ?_) (fun c_282 => ?_)
  · have hf := ip c_282 hf
    exact wX4_plans_310 hR X N r35 hr35 _ _ _ _ _ _ _ _ _ _ _ _ _ I (lv_sub hl [0, 1, 2, 3, 5, 6, 7, 9] rfl) hf
  · have hf := im c_282 hf
    refine lv_iload hx hb dX4_plans_285 (lv_at hl 3 rfl) ?_
    refine lv_aload_n hx hb dX4_plans_287 rfl (lv_at hl 0 rfl) ?_
    refine tw_get X I 20 (v := .ref (h + 10)) (by decide) q2707 rfl dX4_plans_288 ?_
    refine lv_iload_n hx hb dX4_plans_291 rfl (lv_at hl 1 rfl) ?_
    obtain ⟨v_30, ev_30, hf⟩ := ob hf
    refine tw_ald X I 10 (by decide) (by decide) (by decide) ev_30 dX4_plans_292 ?_
    refine lv_icmp_gt (tgt := 310) hx hb dX4_plans_293 (by decide) (fun c_293 => ?_) (fun c_293 => ?_)
    · have hf := ip c_293 hf
      exact wX4_plans_310 hR X N r35 hr35 _ _ _ _ _ _ _ _ _ _ _ _ _ I (lv_sub hl [0, 1, 2, 3, 5, 6, 7, 9] rfl) hf
    · have hf := im c_293 hf
      refine lv_iload hx hb dX4_plans_296 (lv_at hl 2 rfl) ?_
      refine lv_aload_n hx hb dX4_plans_298 rfl (lv_at hl 0 rfl) ?_
      refine lv_iconst (v := 5) hx hb dX4_plans_299 (by decide) ?_
      obtain ⟨v_31, ev_31, hf⟩ := ob hf
      refine tw_V (some (.int v_31)) (rs := [.int v_31, .int x4]) (rest := [.int x4]) (As := [.int (5 : Int32)]) X I (mX4_ruled X.2.2.2.2.1 ev_31) lvX4_ruled hdX4_ruled ⟨Nat.le_trans (Nat.le_of_ble_eq_true rfl) hR.1, Nat.le_trans (Nat.le_of_ble_eq_true rfl) hR.2⟩ rfl hl.1 rfl (Nat.le_of_ble_eq_true rfl) rfl dX4_plans_300 (fun H locs cells slots I => ?_)
      refine lv_icmp_gt (tgt := 310) hx hb dX4_plans_303 (by decide) (fun c_303 => ?_) (fun c_303 => ?_)
      · have hf := ip c_303 hf
        exact wX4_plans_310 hR X N r35 hr35 _ _ _ _ _ _ _ _ _ _ _ _ _ I (lv_sub hl [0, 1, 2, 3, 5, 6, 7, 9] rfl) hf
      · have hf := im c_303 hf
        refine lv_iconst (v := 1) hx hb dX4_plans_306 (by decide) ?_
        refine lv_goto (tgt := 311) hx hb dX4_plans_307 (by decide) ?_
        exact wX4_plans_311 hR X N r35 hr35 _ _ _ _ _ _ _ _ _ _ _ _ _ _ I (lv_sub hl [0, 1, 2, 3, 5, 6, 7, 9] rfl) hf
theorem wX4_plans_210 {E : EV} {l : Launch} {p : Program} {e : Env} {s : State} {m : MethodId} {args : Array Value} {below : List Frame} {meth : Method} {c : Code} {R : Room} {h : Nat} {S : St} {res : (Int32 × TS)} (hR : 3 ≤ R.frames ∧ 65 ≤ R.locals) (X : MX E p s m args meth c cX4_plans 14 (some .boolean) RX4 "plans") (N : Nat) (r35 : Int32 → Int32 → Int32 → Int32 → Int32 → Int32 → Int32 → TS → Option (Int32 × TS)) (hr35 : ∀ (x1 : Int32) (x2 : Int32) (x3 : Int32) (x4 : Int32) (x5 : Int32) (x6 : Int32) (x7 : Int32) (σ : TS) (H : Heap) (locs : List Loc) (cells slots : Nat) (ls : Array Slot), WI E R s (twS h σ S) H locs cells slots → lv_has ls 14 [(0, .ref h), (1, .int x1), (2, .int x2), (3, .int x3), (4, .int x4), (5, .int x5), (6, .int x6), (7, .int x7)] → r35 x1 x2 x3 x4 x5 x6 x7 σ = some res → W p l e R s m args below meth c H locs cells slots (MQ below (Qd E R.cells R.slots (some (.int res.1)) (twS h res.2 S)) args s R.cells R.slots (fr E)) (F0 m 35 ls [])) : ∀ (x1 : Int32) (x4 : Int32) (x5 : Int32) (x6 : Int32) (x7 : Int32) (x8 : Int32) (x9 : Int32) (x10 : Int32) (x11 : Int32) (y0 : Int32) (σ : TS) (H : Heap) (locs : List Loc) (cells slots : Nat) (ls : Array Slot), WI E R s (twS h σ S) H locs cells slots → lv_has ls 14 [(0, .ref h), (1, .int x1), (4, .int x4), (5, .int x5), (6, .int x6), (7, .int x7), (8, .int x8), (9, .int x9), (10, .int x10), (11, .int x11)] → fX4_plans_210 N r35 x1 x4 x5 x6 x7 x8 x9 x10 x11 y0 σ = some res → W p l e R s m args below meth c H locs cells slots (MQ below (Qd E R.cells R.slots (some (.int res.1)) (twS h res.2 S)) args s R.cells R.slots (fr E)) (F0 m 210 ls [.int y0]) := by
  intro x1 x4 x5 x6 x7 x8 x9 x10 x11 y0 σ H locs cells slots ls I hl hf
  obtain ⟨⟨hx, hb, hml, hown, hts⟩, -⟩ := id X
  unfold fX4_plans_210 at hf
  refine lv_istore (lv' := [(12, .int y0), (0, .ref h), (1, .int x1), (4, .int x4), (5, .int x5), (6, .int x6), (7, .int x7), (8, .int x8), (9, .int x9), (10, .int x10), (11, .int x11)]) hx hb dX4_plans_210 hl (by decide) rfl (fun ls hl => ?_)
  refine lv_aload_n hx hb dX4_plans_212 rfl (lv_at hl 1 rfl) ?_
  refine tw_get X I 33 (v := .ref (h + 14)) (by decide) q2720 rfl dX4_plans_213 ?_
  refine lv_iload hx hb dX4_plans_216 (lv_at hl 6 rfl) ?_
  refine lv_iload hx hb dX4_plans_218 (lv_at hl 10 rfl) ?_
  obtain ⟨σ_33, eσ_33, hf⟩ := ob hf
  refine tw_ast X I 14 (by decide) (by decide) (by decide) eσ_33 dX4_plans_220 (fun H locs I => ?_)
  refine lv_aload_n hx hb dX4_plans_221 rfl (lv_at hl 1 rfl) ?_
  refine tw_get X I 34 (v := .ref (h + 15)) (by decide) q2721 rfl dX4_plans_222 ?_
  refine lv_iload hx hb dX4_plans_225 (lv_at hl 6 rfl) ?_
  refine lv_iload hx hb dX4_plans_227 (lv_at hl 10 rfl) ?_
  refine lv_iload hx hb dX4_plans_229 (lv_at hl 9 rfl) ?_
  refine lv_iadd hx hb dX4_plans_231 ?_
  obtain ⟨σ_34, eσ_34, hf⟩ := ob hf
  refine tw_ast X I 15 (by decide) (by decide) (by decide) eσ_34 dX4_plans_232 (fun H locs I => ?_)
  refine lv_aload_n hx hb dX4_plans_233 rfl (lv_at hl 1 rfl) ?_
  refine tw_get X I 35 (v := .ref (h + 16)) (by decide) q2722 rfl dX4_plans_234 ?_
  refine lv_iload hx hb dX4_plans_237 (lv_at hl 6 rfl) ?_
  refine lv_aload_n hx hb dX4_plans_239 rfl (lv_at hl 1 rfl) ?_
  refine tw_get X I 34 (v := .ref (h + 15)) (by decide) q2721 rfl dX4_plans_240 ?_
  refine lv_iload hx hb dX4_plans_243 (lv_at hl 6 rfl) ?_
  obtain ⟨v_35, ev_35, hf⟩ := ob hf
  refine tw_ald X I 15 (by decide) (by decide) (by decide) ev_35 dX4_plans_245 ?_
  refine lv_aload_n hx hb dX4_plans_246 rfl (lv_at hl 1 rfl) ?_
  refine lv_iload hx hb dX4_plans_247 (lv_at hl 0 rfl) ?_
  refine lv_if_eq (tgt := 256) hx hb dX4_plans_249 (by decide) (fun c_249 => ?_) (fun c_249 => ?_)
  · have hf := ip c_249 hf
    refine lv_iconst (v := 1) hx hb dX4_plans_256 (by decide) ?_
    exact wX4_plans_257 hR X N r35 hr35 _ _ _ _ _ _ _ _ _ _ _ _ _ _ _ _ _ _ I (lv_sub hl [1, 2, 3, 4, 5, 6, 7, 8, 9, 0] rfl) hf
  · have hf := im c_249 hf
    refine lv_iconst (v := 3) hx hb dX4_plans_252 (by decide) ?_
    refine lv_goto (tgt := 257) hx hb dX4_plans_253 (by decide) ?_
    exact wX4_plans_257 hR X N r35 hr35 _ _ _ _ _ _ _ _ _ _ _ _ _ _ _ _ _ _ I (lv_sub hl [1, 2, 3, 4, 5, 6, 7, 8, 9, 0] rfl) hf
theorem wX4_plans_209 {E : EV} {l : Launch} {p : Program} {e : Env} {s : State} {m : MethodId} {args : Array Value} {below : List Frame} {meth : Method} {c : Code} {R : Room} {h : Nat} {S : St} {res : (Int32 × TS)} (hR : 3 ≤ R.frames ∧ 65 ≤ R.locals) (X : MX E p s m args meth c cX4_plans 14 (some .boolean) RX4 "plans") (N : Nat) (r35 : Int32 → Int32 → Int32 → Int32 → Int32 → Int32 → Int32 → TS → Option (Int32 × TS)) (hr35 : ∀ (x1 : Int32) (x2 : Int32) (x3 : Int32) (x4 : Int32) (x5 : Int32) (x6 : Int32) (x7 : Int32) (σ : TS) (H : Heap) (locs : List Loc) (cells slots : Nat) (ls : Array Slot), WI E R s (twS h σ S) H locs cells slots → lv_has ls 14 [(0, .ref h), (1, .int x1), (2, .int x2), (3, .int x3), (4, .int x4), (5, .int x5), (6, .int x6), (7, .int x7)] → r35 x1 x2 x3 x4 x5 x6 x7 σ = some res → W p l e R s m args below meth c H locs cells slots (MQ below (Qd E R.cells R.slots (some (.int res.1)) (twS h res.2 S)) args s R.cells R.slots (fr E)) (F0 m 35 ls [])) : ∀ (x1 : Int32) (x4 : Int32) (x5 : Int32) (x6 : Int32) (x7 : Int32) (x8 : Int32) (x9 : Int32) (x10 : Int32) (x11 : Int32) (σ : TS) (H : Heap) (locs : List Loc) (cells slots : Nat) (ls : Array Slot), WI E R s (twS h σ S) H locs cells slots → lv_has ls 14 [(0, .ref h), (1, .int x1), (4, .int x4), (5, .int x5), (6, .int x6), (7, .int x7), (8, .int x8), (9, .int x9), (10, .int x10), (11, .int x11)] → fX4_plans_209 N r35 x1 x4 x5 x6 x7 x8 x9 x10 x11 σ = some res → W p l e R s m args below meth c H locs cells slots (MQ below (Qd E R.cells R.slots (some (.int res.1)) (twS h res.2 S)) args s R.cells R.slots (fr E)) (F0 m 209 ls []) := by
  intro x1 x4 x5 x6 x7 x8 x9 x10 x11 σ H locs cells slots ls I hl hf
  obtain ⟨⟨hx, hb, hml, hown, hts⟩, -⟩ := id X
  unfold fX4_plans_209 at hf
  refine lv_iconst (v := 0) hx hb dX4_plans_209 (by decide) ?_
  exact wX4_plans_210 hR X N r35 hr35 _ _ _ _ _ _ _ _ _ _ _ _ _ _ _ _ I (lv_sub hl [0, 1, 2, 3, 4, 5, 6, 7, 8, 9] rfl) hf
theorem wX4_plans_186 {E : EV} {l : Launch} {p : Program} {e : Env} {s : State} {m : MethodId} {args : Array Value} {below : List Frame} {meth : Method} {c : Code} {R : Room} {h : Nat} {S : St} {res : (Int32 × TS)} (hR : 3 ≤ R.frames ∧ 65 ≤ R.locals) (X : MX E p s m args meth c cX4_plans 14 (some .boolean) RX4 "plans") (N : Nat) (r35 : Int32 → Int32 → Int32 → Int32 → Int32 → Int32 → Int32 → TS → Option (Int32 × TS)) (hr35 : ∀ (x1 : Int32) (x2 : Int32) (x3 : Int32) (x4 : Int32) (x5 : Int32) (x6 : Int32) (x7 : Int32) (σ : TS) (H : Heap) (locs : List Loc) (cells slots : Nat) (ls : Array Slot), WI E R s (twS h σ S) H locs cells slots → lv_has ls 14 [(0, .ref h), (1, .int x1), (2, .int x2), (3, .int x3), (4, .int x4), (5, .int x5), (6, .int x6), (7, .int x7)] → r35 x1 x2 x3 x4 x5 x6 x7 σ = some res → W p l e R s m args below meth c H locs cells slots (MQ below (Qd E R.cells R.slots (some (.int res.1)) (twS h res.2 S)) args s R.cells R.slots (fr E)) (F0 m 35 ls [])) : ∀ (x1 : Int32) (x5 : Int32) (x6 : Int32) (x7 : Int32) (x8 : Int32) (x9 : Int32) (x10 : Int32) (x11 : Int32) (y0 : Int32) (σ : TS) (H : Heap) (locs : List Loc) (cells slots : Nat) (ls : Array Slot), WI E R s (twS h σ S) H locs cells slots → lv_has ls 14 [(0, .ref h), (1, .int x1), (5, .int x5), (6, .int x6), (7, .int x7), (8, .int x8), (9, .int x9), (10, .int x10), (11, .int x11)] → fX4_plans_186 N r35 x1 x5 x6 x7 x8 x9 x10 x11 y0 σ = some res → W p l e R s m args below meth c H locs cells slots (MQ below (Qd E R.cells R.slots (some (.int res.1)) (twS h res.2 S)) args s R.cells R.slots (fr E)) (F0 m 186 ls [.int y0]) := by
  intro x1 x5 x6 x7 x8 x9 x10 x11 y0 σ H locs cells slots ls I hl hf
  obtain ⟨⟨hx, hb, hml, hown, hts⟩, -⟩ := id X
  unfold fX4_plans_186 at hf
  refine lv_istore (lv' := [(4, .int y0), (0, .ref h), (1, .int x1), (5, .int x5), (6, .int x6), (7, .int x7), (8, .int x8), (9, .int x9), (10, .int x10), (11, .int x11)]) hx hb dX4_plans_186 hl (by decide) rfl (fun ls hl => ?_)
  refine lv_iload hx hb dX4_plans_188 (lv_at hl 7 rfl) ?_
  refine lv_if_eq (tgt := 209) hx hb dX4_plans_190 (by decide) (fun c_190 => ?_) (fun c_190 => ?_)
  · have hf := ip c_190 hf
    exact wX4_plans_209 hR X N r35 hr35 _ _ _ _ _ _ _ _ _ _ _ _ _ _ _ I (lv_sub hl [1, 2, 0, 3, 4, 5, 6, 7, 8, 9] rfl) hf
  · have hf := im c_190 hf
    refine lv_aload_n hx hb dX4_plans_193 rfl (lv_at hl 1 rfl) ?_
    refine lv_iload hx hb dX4_plans_194 (lv_at hl 6 rfl) ?_
    refine lv_bipush (v := 11) hx hb dX4_plans_196 (by decide) ?_
    obtain ⟨v_36, ev_36, hf⟩ := ob hf
    refine tw_V (some (.int v_36)) (rs := [.int v_36]) (rest := []) (As := [.int x8, .int (11 : Int32)]) X I (mX4_of X.2.2.2.2.1 ev_36) lvX4_of hdX4_of ⟨Nat.le_trans (Nat.le_of_ble_eq_true rfl) hR.1, Nat.le_trans (Nat.le_of_ble_eq_true rfl) hR.2⟩ rfl hl.1 rfl (Nat.le_of_ble_eq_true rfl) rfl dX4_plans_198 (fun H locs cells slots I => ?_)
    refine lv_iconst (v := 1) hx hb dX4_plans_201 (by decide) ?_
    refine lv_icmp_ne (tgt := 209) hx hb dX4_plans_202 (by decide) (fun c_202 => ?_) (fun c_202 => ?_)
    · have hf := im c_202 hf
      exact wX4_plans_209 hR X N r35 hr35 _ _ _ _ _ _ _ _ _ _ _ _ _ _ _ I (lv_sub hl [1, 2, 0, 3, 4, 5, 6, 7, 8, 9] rfl) hf
    · have hf := ip c_202 hf
      refine lv_iconst (v := 1) hx hb dX4_plans_205 (by decide) ?_
      refine lv_goto (tgt := 210) hx hb dX4_plans_206 (by decide) ?_
      exact wX4_plans_210 hR X N r35 hr35 _ _ _ _ _ _ _ _ _ _ _ _ _ _ _ _ I (lv_sub hl [1, 2, 0, 3, 4, 5, 6, 7, 8, 9] rfl) hf
theorem wX4_plans_163 {E : EV} {l : Launch} {p : Program} {e : Env} {s : State} {m : MethodId} {args : Array Value} {below : List Frame} {meth : Method} {c : Code} {R : Room} {h : Nat} {S : St} {res : (Int32 × TS)} (hR : 3 ≤ R.frames ∧ 65 ≤ R.locals) (X : MX E p s m args meth c cX4_plans 14 (some .boolean) RX4 "plans") (N : Nat) (r35 : Int32 → Int32 → Int32 → Int32 → Int32 → Int32 → Int32 → TS → Option (Int32 × TS)) (hr35 : ∀ (x1 : Int32) (x2 : Int32) (x3 : Int32) (x4 : Int32) (x5 : Int32) (x6 : Int32) (x7 : Int32) (σ : TS) (H : Heap) (locs : List Loc) (cells slots : Nat) (ls : Array Slot), WI E R s (twS h σ S) H locs cells slots → lv_has ls 14 [(0, .ref h), (1, .int x1), (2, .int x2), (3, .int x3), (4, .int x4), (5, .int x5), (6, .int x6), (7, .int x7)] → r35 x1 x2 x3 x4 x5 x6 x7 σ = some res → W p l e R s m args below meth c H locs cells slots (MQ below (Qd E R.cells R.slots (some (.int res.1)) (twS h res.2 S)) args s R.cells R.slots (fr E)) (F0 m 35 ls [])) : ∀ (x1 : Int32) (x3 : Int32) (x4 : Int32) (x5 : Int32) (x6 : Int32) (x7 : Int32) (x8 : Int32) (x9 : Int32) (x10 : Int32) (x11 : Int32) (σ : TS) (H : Heap) (locs : List Loc) (cells slots : Nat) (ls : Array Slot), WI E R s (twS h σ S) H locs cells slots → lv_has ls 14 [(0, .ref h), (1, .int x1), (3, .int x3), (4, .int x4), (5, .int x5), (6, .int x6), (7, .int x7), (8, .int x8), (9, .int x9), (10, .int x10), (11, .int x11)] → fX4_plans_163 N r35 x1 x3 x4 x5 x6 x7 x8 x9 x10 x11 σ = some res → W p l e R s m args below meth c H locs cells slots (MQ below (Qd E R.cells R.slots (some (.int res.1)) (twS h res.2 S)) args s R.cells R.slots (fr E)) (F0 m 163 ls []) := by
  intro x1 x3 x4 x5 x6 x7 x8 x9 x10 x11 σ H locs cells slots ls I hl hf
  obtain ⟨⟨hx, hb, hml, hown, hts⟩, -⟩ := id X
  unfold fX4_plans_163 at hf
  refine lv_iload hx hb dX4_plans_163 (lv_at hl 10 rfl) ?_
  refine lv_iload_n hx hb dX4_plans_165 rfl (lv_at hl 2 rfl) ?_
  refine lv_isub hx hb dX4_plans_166 ?_
  refine lv_aload_n hx hb dX4_plans_167 rfl (lv_at hl 0 rfl) ?_
  refine lv_bipush (v := 6) hx hb dX4_plans_168 (by decide) ?_
  obtain ⟨v_38, ev_38, hf⟩ := ob hf
  refine tw_V (some (.int v_38)) (rs := [.int v_38, .int (x11 - x3)]) (rest := [.int (x11 - x3)]) (As := [.int (6 : Int32)]) X I (mX4_ruled X.2.2.2.2.1 ev_38) lvX4_ruled hdX4_ruled ⟨Nat.le_trans (Nat.le_of_ble_eq_true rfl) hR.1, Nat.le_trans (Nat.le_of_ble_eq_true rfl) hR.2⟩ rfl hl.1 rfl (Nat.le_of_ble_eq_true rfl) rfl dX4_plans_170 (fun H locs cells slots I => ?_)
  refine lv_icmp_lt (tgt := 181) hx hb dX4_plans_173 (by decide) (fun c_173 => ?_) (fun c_173 => ?_)
  · have hf := ip c_173 hf
    refine lv_iload hx hb dX4_plans_181 (lv_at hl 3 rfl) ?_
    refine lv_iload hx hb dX4_plans_183 (lv_at hl 9 rfl) ?_
    refine lv_iadd hx hb dX4_plans_185 ?_
    exact wX4_plans_186 hR X N r35 hr35 _ _ _ _ _ _ _ _ _ _ _ _ _ _ _ I (lv_sub hl [0, 1, 4, 5, 6, 7, 8, 9, 10] rfl) hf
  · have hf := im c_173 hf
    refine lv_iload hx hb dX4_plans_176 (lv_at hl 9 rfl) ?_
    refine lv_goto (tgt := 186) hx hb dX4_plans_178 (by decide) ?_
    exact wX4_plans_186 hR X N r35 hr35 _ _ _ _ _ _ _ _ _ _ _ _ _ _ _ I (lv_sub hl [0, 1, 4, 5, 6, 7, 8, 9, 10] rfl) hf
theorem wX4_plans_161 {E : EV} {l : Launch} {p : Program} {e : Env} {s : State} {m : MethodId} {args : Array Value} {below : List Frame} {meth : Method} {c : Code} {R : Room} {h : Nat} {S : St} {res : (Int32 × TS)} (hR : 3 ≤ R.frames ∧ 65 ≤ R.locals) (X : MX E p s m args meth c cX4_plans 14 (some .boolean) RX4 "plans") (N : Nat) (r35 : Int32 → Int32 → Int32 → Int32 → Int32 → Int32 → Int32 → TS → Option (Int32 × TS)) (hr35 : ∀ (x1 : Int32) (x2 : Int32) (x3 : Int32) (x4 : Int32) (x5 : Int32) (x6 : Int32) (x7 : Int32) (σ : TS) (H : Heap) (locs : List Loc) (cells slots : Nat) (ls : Array Slot), WI E R s (twS h σ S) H locs cells slots → lv_has ls 14 [(0, .ref h), (1, .int x1), (2, .int x2), (3, .int x3), (4, .int x4), (5, .int x5), (6, .int x6), (7, .int x7)] → r35 x1 x2 x3 x4 x5 x6 x7 σ = some res → W p l e R s m args below meth c H locs cells slots (MQ below (Qd E R.cells R.slots (some (.int res.1)) (twS h res.2 S)) args s R.cells R.slots (fr E)) (F0 m 35 ls [])) : ∀ (x1 : Int32) (x3 : Int32) (x4 : Int32) (x5 : Int32) (x6 : Int32) (x7 : Int32) (x8 : Int32) (x9 : Int32) (x10 : Int32) (y0 : Int32) (σ : TS) (H : Heap) (locs : List Loc) (cells slots : Nat) (ls : Array Slot), WI E R s (twS h σ S) H locs cells slots → lv_has ls 14 [(0, .ref h), (1, .int x1), (3, .int x3), (4, .int x4), (5, .int x5), (6, .int x6), (7, .int x7), (8, .int x8), (9, .int x9), (10, .int x10)] → fX4_plans_161 N r35 x1 x3 x4 x5 x6 x7 x8 x9 x10 y0 σ = some res → W p l e R s m args below meth c H locs cells slots (MQ below (Qd E R.cells R.slots (some (.int res.1)) (twS h res.2 S)) args s R.cells R.slots (fr E)) (F0 m 161 ls [.int y0]) := by
  intro x1 x3 x4 x5 x6 x7 x8 x9 x10 y0 σ H locs cells slots ls I hl hf
  obtain ⟨⟨hx, hb, hml, hown, hts⟩, -⟩ := id X
  unfold fX4_plans_161 at hf
  refine lv_istore (lv' := [(11, .int y0), (0, .ref h), (1, .int x1), (3, .int x3), (4, .int x4), (5, .int x5), (6, .int x6), (7, .int x7), (8, .int x8), (9, .int x9), (10, .int x10)]) hx hb dX4_plans_161 hl (by decide) rfl (fun ls hl => ?_)
  exact wX4_plans_163 hR X N r35 hr35 _ _ _ _ _ _ _ _ _ _ _ _ _ _ _ _ I (lv_sub hl [1, 2, 3, 4, 5, 6, 7, 8, 9, 10, 0] rfl) hf
theorem wX4_plans_124 {E : EV} {l : Launch} {p : Program} {e : Env} {s : State} {m : MethodId} {args : Array Value} {below : List Frame} {meth : Method} {c : Code} {R : Room} {h : Nat} {S : St} {res : (Int32 × TS)} (hR : 3 ≤ R.frames ∧ 65 ≤ R.locals) (X : MX E p s m args meth c cX4_plans 14 (some .boolean) RX4 "plans") (N : Nat) (r35 : Int32 → Int32 → Int32 → Int32 → Int32 → Int32 → Int32 → TS → Option (Int32 × TS)) (hr35 : ∀ (x1 : Int32) (x2 : Int32) (x3 : Int32) (x4 : Int32) (x5 : Int32) (x6 : Int32) (x7 : Int32) (σ : TS) (H : Heap) (locs : List Loc) (cells slots : Nat) (ls : Array Slot), WI E R s (twS h σ S) H locs cells slots → lv_has ls 14 [(0, .ref h), (1, .int x1), (2, .int x2), (3, .int x3), (4, .int x4), (5, .int x5), (6, .int x6), (7, .int x7)] → r35 x1 x2 x3 x4 x5 x6 x7 σ = some res → W p l e R s m args below meth c H locs cells slots (MQ below (Qd E R.cells R.slots (some (.int res.1)) (twS h res.2 S)) args s R.cells R.slots (fr E)) (F0 m 35 ls [])) : ∀ (x1 : Int32) (x3 : Int32) (x4 : Int32) (x5 : Int32) (x6 : Int32) (x7 : Int32) (x8 : Int32) (x9 : Int32) (x10 : Int32) (y0 : Int32) (σ : TS) (H : Heap) (locs : List Loc) (cells slots : Nat) (ls : Array Slot), WI E R s (twS h σ S) H locs cells slots → lv_has ls 14 [(0, .ref h), (1, .int x1), (3, .int x3), (4, .int x4), (5, .int x5), (6, .int x6), (7, .int x7), (8, .int x8), (9, .int x9), (10, .int x10)] → fX4_plans_124 N r35 x1 x3 x4 x5 x6 x7 x8 x9 x10 y0 σ = some res → W p l e R s m args below meth c H locs cells slots (MQ below (Qd E R.cells R.slots (some (.int res.1)) (twS h res.2 S)) args s R.cells R.slots (fr E)) (F0 m 124 ls [.int y0]) := by
  intro x1 x3 x4 x5 x6 x7 x8 x9 x10 y0 σ H locs cells slots ls I hl hf
  obtain ⟨⟨hx, hb, hml, hown, hts⟩, -⟩ := id X
  unfold fX4_plans_124 at hf
  refine lv_istore (lv' := [(11, .int y0), (0, .ref h), (1, .int x1), (3, .int x3), (4, .int x4), (5, .int x5), (6, .int x6), (7, .int x7), (8, .int x8), (9, .int x9), (10, .int x10)]) hx hb dX4_plans_124 hl (by decide) rfl (fun ls hl => ?_)
  refine lv_iload hx hb dX4_plans_126 (lv_at hl 7 rfl) ?_
  refine lv_if_ne (tgt := 163) hx hb dX4_plans_128 (by decide) (fun c_128 => ?_) (fun c_128 => ?_)
  · have hf := im c_128 hf
    exact wX4_plans_163 hR X N r35 hr35 _ _ _ _ _ _ _ _ _ _ _ _ _ _ _ _ I (lv_sub hl [1, 2, 3, 4, 5, 6, 7, 8, 9, 10, 0] rfl) hf
  · have hf := ip c_128 hf
    refine lv_aload_n hx hb dX4_plans_131 rfl (lv_at hl 1 rfl) ?_
    refine lv_iload_n hx hb dX4_plans_132 rfl (lv_at hl 2 rfl) ?_
    refine lv_iconst (v := 3) hx hb dX4_plans_133 (by decide) ?_
    obtain ⟨v_40, ev_40, hf⟩ := ob hf
    refine tw_V (some (.int v_40)) (rs := [.int v_40]) (rest := []) (As := [.int x1, .int (3 : Int32)]) X I (mX4_in2 X.2.2.2.2.1 ev_40) lvX4_in2 hdX4_in2 ⟨Nat.le_trans (Nat.le_of_ble_eq_true rfl) hR.1, Nat.le_trans (Nat.le_of_ble_eq_true rfl) hR.2⟩ rfl hl.1 rfl (Nat.le_of_ble_eq_true rfl) rfl dX4_plans_134 (fun H locs cells slots I => ?_)
    refine lv_iconst (v := (-1)) hx hb dX4_plans_137 (by decide) ?_
    refine lv_icmp_ne (tgt := 155) hx hb dX4_plans_138 (by decide) (fun c_138 => ?_) (fun c_138 => ?_)
    · have hf := im c_138 hf
      refine lv_aload_n hx hb dX4_plans_155 rfl (lv_at hl 1 rfl) ?_
      refine lv_iload_n hx hb dX4_plans_156 rfl (lv_at hl 2 rfl) ?_
      refine lv_iconst (v := 3) hx hb dX4_plans_157 (by decide) ?_
      obtain ⟨v_42, ev_42, hf⟩ := ob hf
      refine tw_V (some (.int v_42)) (rs := [.int v_42]) (rest := []) (As := [.int x1, .int (3 : Int32)]) X I (mX4_in2 X.2.2.2.2.1 ev_42) lvX4_in2 hdX4_in2 ⟨Nat.le_trans (Nat.le_of_ble_eq_true rfl) hR.1, Nat.le_trans (Nat.le_of_ble_eq_true rfl) hR.2⟩ rfl hl.1 rfl (Nat.le_of_ble_eq_true rfl) rfl dX4_plans_158 (fun H locs cells slots I => ?_)
      exact wX4_plans_161 hR X N r35 hr35 _ _ _ _ _ _ _ _ _ _ _ _ _ _ _ _ I (lv_sub hl [1, 2, 3, 4, 5, 6, 7, 8, 9, 10] rfl) hf
    · have hf := ip c_138 hf
      refine lv_iload hx hb dX4_plans_141 (lv_at hl 0 rfl) ?_
      refine lv_aload_n hx hb dX4_plans_143 rfl (lv_at hl 1 rfl) ?_
      refine tw_get X I 1 (v := .ref (h + 1)) (by decide) q2688 rfl dX4_plans_144 ?_
      refine lv_iconst (v := 0) hx hb dX4_plans_147 (by decide) ?_
      obtain ⟨v_44, ev_44, hf⟩ := ob hf
      refine tw_ald X I 1 (by decide) (by decide) (by decide) ev_44 dX4_plans_148 ?_
      obtain ⟨v_45, ev_45, hf⟩ := ob hf
      refine tw_S (some (.int v_45)) (rs := [.int v_45]) (rest := []) (As := [.int y0, .int v_44]) X I (mX4_greater X.2.2.2.2.1 ev_45) lvX4_greater hdX4_greater ⟨Nat.le_trans (Nat.le_of_ble_eq_true rfl) hR.1, Nat.le_trans (Nat.le_of_ble_eq_true rfl) hR.2⟩ rfl hl.1 rfl (Nat.le_of_ble_eq_true rfl) rfl dX4_plans_149 (fun H locs cells slots I => ?_)
      refine lv_goto (tgt := 161) hx hb dX4_plans_152 (by decide) ?_
      exact wX4_plans_161 hR X N r35 hr35 _ _ _ _ _ _ _ _ _ _ _ _ _ _ _ _ I (lv_sub hl [1, 2, 3, 4, 5, 6, 7, 8, 9, 10] rfl) hf
theorem wX4_plans_73 {E : EV} {l : Launch} {p : Program} {e : Env} {s : State} {m : MethodId} {args : Array Value} {below : List Frame} {meth : Method} {c : Code} {R : Room} {h : Nat} {S : St} {res : (Int32 × TS)} (hR : 3 ≤ R.frames ∧ 65 ≤ R.locals) (X : MX E p s m args meth c cX4_plans 14 (some .boolean) RX4 "plans") (N : Nat) (r35 : Int32 → Int32 → Int32 → Int32 → Int32 → Int32 → Int32 → TS → Option (Int32 × TS)) (hr35 : ∀ (x1 : Int32) (x2 : Int32) (x3 : Int32) (x4 : Int32) (x5 : Int32) (x6 : Int32) (x7 : Int32) (σ : TS) (H : Heap) (locs : List Loc) (cells slots : Nat) (ls : Array Slot), WI E R s (twS h σ S) H locs cells slots → lv_has ls 14 [(0, .ref h), (1, .int x1), (2, .int x2), (3, .int x3), (4, .int x4), (5, .int x5), (6, .int x6), (7, .int x7)] → r35 x1 x2 x3 x4 x5 x6 x7 σ = some res → W p l e R s m args below meth c H locs cells slots (MQ below (Qd E R.cells R.slots (some (.int res.1)) (twS h res.2 S)) args s R.cells R.slots (fr E)) (F0 m 35 ls [])) : ∀ (x1 : Int32) (x2 : Int32) (x3 : Int32) (x4 : Int32) (x5 : Int32) (x6 : Int32) (x7 : Int32) (x8 : Int32) (y0 : Int32) (σ : TS) (H : Heap) (locs : List Loc) (cells slots : Nat) (ls : Array Slot), WI E R s (twS h σ S) H locs cells slots → lv_has ls 14 [(0, .ref h), (1, .int x1), (2, .int x2), (3, .int x3), (4, .int x4), (5, .int x5), (6, .int x6), (7, .int x7), (8, .int x8)] → fX4_plans_73 N r35 x1 x2 x3 x4 x5 x6 x7 x8 y0 σ = some res → W p l e R s m args below meth c H locs cells slots (MQ below (Qd E R.cells R.slots (some (.int res.1)) (twS h res.2 S)) args s R.cells R.slots (fr E)) (F0 m 73 ls [.int y0]) := by
  intro x1 x2 x3 x4 x5 x6 x7 x8 y0 σ H locs cells slots ls I hl hf
  obtain ⟨⟨hx, hb, hml, hown, hts⟩, -⟩ := id X
  unfold fX4_plans_73 at hf
  refine lv_istore (lv' := [(9, .int y0), (0, .ref h), (1, .int x1), (2, .int x2), (3, .int x3), (4, .int x4), (5, .int x5), (6, .int x6), (7, .int x7), (8, .int x8)]) hx hb dX4_plans_73 hl (by decide) rfl (fun ls hl => ?_)
  refine lv_aload_n hx hb dX4_plans_75 rfl (lv_at hl 1 rfl) ?_
  refine lv_iload_n hx hb dX4_plans_76 rfl (lv_at hl 3 rfl) ?_
  refine lv_aload_n hx hb dX4_plans_77 rfl (lv_at hl 1 rfl) ?_
  refine lv_aload_n hx hb dX4_plans_78 rfl (lv_at hl 1 rfl) ?_
  refine tw_get X I 32 (v := .ref (h + 13)) (by decide) q2719 rfl dX4_plans_79 ?_
  refine lv_iload hx hb dX4_plans_82 (lv_at hl 8 rfl) ?_
  obtain ⟨v_47, ev_47, hf⟩ := ob hf
  refine tw_ald X I 13 (by decide) (by decide) (by decide) ev_47 dX4_plans_84 ?_
  obtain ⟨v_48, ev_48, hf⟩ := ob hf
  refine tw_V (some (.int v_48)) (rs := [.int v_48, .int x2, .ref h]) (rest := [.int x2, .ref h]) (As := [.int v_47]) X I (mX4_zoneOf X.2.2.2.2.1 ev_48) lvX4_zoneOf hdX4_zoneOf ⟨Nat.le_trans (Nat.le_of_ble_eq_true rfl) hR.1, Nat.le_trans (Nat.le_of_ble_eq_true rfl) hR.2⟩ rfl hl.1 rfl (Nat.le_of_ble_eq_true rfl) rfl dX4_plans_85 (fun H locs cells slots I => ?_)
  obtain ⟨v_50, ev_50, hf⟩ := ob hf
  refine tw_V (some (.int v_50)) (rs := [.int v_50]) (rest := []) (As := [.int x2, .int v_48]) X I (mX4_minutesOf X.2.2.2.2.1 ev_50) lvX4_minutesOf hdX4_minutesOf ⟨Nat.le_trans (Nat.le_of_ble_eq_true rfl) hR.1, Nat.le_trans (Nat.le_of_ble_eq_true rfl) hR.2⟩ rfl hl.1 rfl (Nat.le_of_ble_eq_true rfl) rfl dX4_plans_88 (fun H locs cells slots I => ?_)
  refine lv_istore (lv' := [(10, .int v_50), (9, .int y0), (0, .ref h), (1, .int x1), (2, .int x2), (3, .int x3), (4, .int x4), (5, .int x5), (6, .int x6), (7, .int x7), (8, .int x8)]) hx hb dX4_plans_91 hl (by decide) rfl (fun ls hl => ?_)
  refine lv_iload hx hb dX4_plans_93 (lv_at hl 0 rfl) ?_
  refine lv_iconst (v := (-1)) hx hb dX4_plans_95 (by decide) ?_
  refine lv_icmp_ne (tgt := 101) hx hb dX4_plans_96 (by decide) (fun c_96 => ?_) (fun c_96 => ?_)
  · have hf := im c_96 hf
    refine lv_iload hx hb dX4_plans_101 (lv_at hl 1 rfl) ?_
    refine lv_if_eq (tgt := 123) hx hb dX4_plans_103 (by decide) (fun c_103 => ?_) (fun c_103 => ?_)
    · have hf := ip c_103 hf
      refine lv_iload_n hx hb dX4_plans_123 rfl (lv_at hl 5 rfl) ?_
      exact wX4_plans_124 hR X N r35 hr35 _ _ _ _ _ _ _ _ _ _ _ _ _ _ _ _ I (lv_sub hl [2, 3, 5, 6, 7, 8, 9, 10, 1, 0] rfl) hf
    · have hf := im c_103 hf
      refine lv_iload_n hx hb dX4_plans_106 rfl (lv_at hl 5 rfl) ?_
      refine lv_aload_n hx hb dX4_plans_107 rfl (lv_at hl 2 rfl) ?_
      refine lv_iload hx hb dX4_plans_108 (lv_at hl 10 rfl) ?_
      refine lv_iconst (v := 4) hx hb dX4_plans_110 (by decide) ?_
      obtain ⟨v_52, ev_52, hf⟩ := ob hf
      refine tw_V (some (.int v_52)) (rs := [.int v_52, .int x3]) (rest := [.int x3]) (As := [.int x8, .int (4 : Int32)]) X I (mX4_of X.2.2.2.2.1 ev_52) lvX4_of hdX4_of ⟨Nat.le_trans (Nat.le_of_ble_eq_true rfl) hR.1, Nat.le_trans (Nat.le_of_ble_eq_true rfl) hR.2⟩ rfl hl.1 rfl (Nat.le_of_ble_eq_true rfl) rfl dX4_plans_111 (fun H locs cells slots I => ?_)
      refine lv_iload hx hb dX4_plans_114 (lv_at hl 0 rfl) ?_
      refine lv_isub hx hb dX4_plans_116 ?_
      obtain ⟨v_54, ev_54, hf⟩ := ob hf
      refine tw_S (some (.int v_54)) (rs := [.int v_54]) (rest := []) (As := [.int x3, .int (v_52 - v_50)]) X I (mX4_greater X.2.2.2.2.1 ev_54) lvX4_greater hdX4_greater ⟨Nat.le_trans (Nat.le_of_ble_eq_true rfl) hR.1, Nat.le_trans (Nat.le_of_ble_eq_true rfl) hR.2⟩ rfl hl.1 rfl (Nat.le_of_ble_eq_true rfl) rfl dX4_plans_117 (fun H locs cells slots I => ?_)
      refine lv_goto (tgt := 124) hx hb dX4_plans_120 (by decide) ?_
      exact wX4_plans_124 hR X N r35 hr35 _ _ _ _ _ _ _ _ _ _ _ _ _ _ _ _ I (lv_sub hl [2, 3, 5, 6, 7, 8, 9, 10, 1, 0] rfl) hf
  · have hf := ip c_96 hf
    refine lv_iconst (v := 0) hx hb dX4_plans_99 (by decide) ?_
    cases os hf
    exact r_zret X I (Or.inl rfl) dX4_plans_100
theorem wX4_plans_35 {E : EV} {l : Launch} {p : Program} {e : Env} {s : State} {m : MethodId} {args : Array Value} {below : List Frame} {meth : Method} {c : Code} {R : Room} {h : Nat} {S : St} {res : (Int32 × TS)} (hR : 3 ≤ R.frames ∧ 65 ≤ R.locals) (X : MX E p s m args meth c cX4_plans 14 (some .boolean) RX4 "plans") (N : Nat) : ∀ (n : Nat) (x1 : Int32) (x2 : Int32) (x3 : Int32) (x4 : Int32) (x5 : Int32) (x6 : Int32) (x7 : Int32) (σ : TS) (H : Heap) (locs : List Loc) (cells slots : Nat) (ls : Array Slot), WI E R s (twS h σ S) H locs cells slots → lv_has ls 14 [(0, .ref h), (1, .int x1), (2, .int x2), (3, .int x3), (4, .int x4), (5, .int x5), (6, .int x6), (7, .int x7)] → fX4_plans_35 N n x1 x2 x3 x4 x5 x6 x7 σ = some res → W p l e R s m args below meth c H locs cells slots (MQ below (Qd E R.cells R.slots (some (.int res.1)) (twS h res.2 S)) args s R.cells R.slots (fr E)) (F0 m 35 ls []) := by
  intro n
  induction n with
  | zero => intro x1 x2 x3 x4 x5 x6 x7 σ H locs cells slots ls I hl hf; exact nomatch (show none = some res from hf)
  | succ n ih =>
    intro x1 x2 x3 x4 x5 x6 x7 σ H locs cells slots ls I hl hf
    obtain ⟨⟨hx, hb, hml, hown, hts⟩, -⟩ := id X
    rw [fX4_plans_35.eq_2] at hf
    refine lv_iload hx hb dX4_plans_35 (lv_at hl 7 rfl) ?_
    refine lv_aload_n hx hb dX4_plans_37 rfl (lv_at hl 0 rfl) ?_
    refine tw_get X I 39 (v := .int (σ.1 0 39)) (by decide) q2726 rfl dX4_plans_38 ?_
    refine lv_icmp_ge (tgt := 485) hx hb dX4_plans_41 (by decide) (fun c_41 => ?_) (fun c_41 => ?_)
    · have hf := ip c_41 hf
      refine lv_iload hx hb dX4_plans_485 (lv_at hl 6 rfl) ?_
      refine lv_if_eq (tgt := 521) hx hb dX4_plans_487 (by decide) (fun c_487 => ?_) (fun c_487 => ?_)
      · have hf := ip c_487 hf
        refine lv_iconst (v := 0) hx hb dX4_plans_521 (by decide) ?_
        cases os hf
        exact r_zret X I (Or.inl rfl) dX4_plans_522
      · have hf := im c_487 hf
        refine lv_aload_n hx hb dX4_plans_490 rfl (lv_at hl 0 rfl) ?_
        refine tw_get X I 39 (v := .int (σ.1 0 39)) (by decide) q2726 rfl dX4_plans_491 ?_
        refine lv_if_eq (tgt := 517) hx hb dX4_plans_494 (by decide) (fun c_494 => ?_) (fun c_494 => ?_)
        · have hf := ip c_494 hf
          refine lv_iconst (v := 1) hx hb dX4_plans_517 (by decide) ?_
          refine lv_goto (tgt := 522) hx hb dX4_plans_518 (by decide) ?_
          cases os hf
          exact r_zret X I (Or.inr rfl) dX4_plans_522
        · have hf := im c_494 hf
          refine lv_aload_n hx hb dX4_plans_497 rfl (lv_at hl 0 rfl) ?_
          refine tw_get X I 35 (v := .ref (h + 16)) (by decide) q2722 rfl dX4_plans_498 ?_
          refine lv_aload_n hx hb dX4_plans_501 rfl (lv_at hl 0 rfl) ?_
          refine tw_get X I 39 (v := .int (σ.1 0 39)) (by decide) q2726 rfl dX4_plans_502 ?_
          refine lv_iconst (v := 1) hx hb dX4_plans_505 (by decide) ?_
          refine lv_isub hx hb dX4_plans_506 ?_
          obtain ⟨v_56, ev_56, hf⟩ := ob hf
          refine tw_ald X I 16 (by decide) (by decide) (by decide) ev_56 dX4_plans_507 ?_
          refine lv_aload_n hx hb dX4_plans_508 rfl (lv_at hl 0 rfl) ?_
          refine lv_iload_n hx hb dX4_plans_509 rfl (lv_at hl 1 rfl) ?_
          refine lv_iconst (v := 4) hx hb dX4_plans_510 (by decide) ?_
          obtain ⟨v_57, ev_57, hf⟩ := ob hf
          refine tw_V (some (.int v_57)) (rs := [.int v_57, .int v_56]) (rest := [.int v_56]) (As := [.int x1, .int (4 : Int32)]) X I (mX4_in2 X.2.2.2.2.1 ev_57) lvX4_in2 hdX4_in2 ⟨Nat.le_trans (Nat.le_of_ble_eq_true rfl) hR.1, Nat.le_trans (Nat.le_of_ble_eq_true rfl) hR.2⟩ rfl hl.1 rfl (Nat.le_of_ble_eq_true rfl) rfl dX4_plans_511 (fun H locs cells slots I => ?_)
          refine lv_icmp_gt (tgt := 521) hx hb dX4_plans_514 (by decide) (fun c_514 => ?_) (fun c_514 => ?_)
          · have hf := ip c_514 hf
            refine lv_iconst (v := 0) hx hb dX4_plans_521 (by decide) ?_
            cases os hf
            exact r_zret X I (Or.inl rfl) dX4_plans_522
          · have hf := im c_514 hf
            refine lv_iconst (v := 1) hx hb dX4_plans_517 (by decide) ?_
            refine lv_goto (tgt := 522) hx hb dX4_plans_518 (by decide) ?_
            cases os hf
            exact r_zret X I (Or.inr rfl) dX4_plans_522
    · have hf := im c_41 hf
      refine lv_aload_n hx hb dX4_plans_44 rfl (lv_at hl 0 rfl) ?_
      refine tw_get X I 32 (v := .ref (h + 13)) (by decide) q2719 rfl dX4_plans_45 ?_
      refine lv_iload hx hb dX4_plans_48 (lv_at hl 7 rfl) ?_
      obtain ⟨v_59, ev_59, hf⟩ := ob hf
      refine tw_ald X I 13 (by decide) (by decide) (by decide) ev_59 dX4_plans_50 ?_
      refine lv_iconst (v := 2) hx hb dX4_plans_51 (by decide) ?_
      refine lv_idiv hx hb dX4_plans_52 (by decide) ?_
      obtain ⟨x8_60, ex8_60, hf⟩ := ol hf
      refine nm_i ex8_60 ?_
      refine lv_istore (lv' := [(8, .int x8_60), (0, .ref h), (1, .int x1), (2, .int x2), (3, .int x3), (4, .int x4), (5, .int x5), (6, .int x6), (7, .int x7)]) hx hb dX4_plans_53 hl (by decide) rfl (fun ls hl => ?_)
      refine lv_aload_n hx hb dX4_plans_55 rfl (lv_at hl 1 rfl) ?_
      refine tw_get X I 32 (v := .ref (h + 13)) (by decide) q2719 rfl dX4_plans_56 ?_
      refine lv_iload hx hb dX4_plans_59 (lv_at hl 8 rfl) ?_
      obtain ⟨v_61, ev_61, hf⟩ := ob hf
      refine tw_ald X I 13 (by decide) (by decide) (by decide) ev_61 dX4_plans_61 ?_
      refine lv_iconst (v := 1) hx hb dX4_plans_62 (by decide) ?_
      refine lv_iand hx hb dX4_plans_63 ?_
      refine lv_iconst (v := 1) hx hb dX4_plans_64 (by decide) ?_
      refine lv_icmp_ne (tgt := 72) hx hb dX4_plans_65 (by decide) (fun c_65 => ?_) (fun c_65 => ?_)
      · have hf := im c_65 hf
        refine lv_iconst (v := 0) hx hb dX4_plans_72 (by decide) ?_
        exact wX4_plans_73 hR X N (fX4_plans_35 N n) ih _ _ _ _ _ _ _ _ _ _ _ _ _ _ _ I (lv_sub hl [1, 2, 3, 4, 5, 6, 7, 8, 0] rfl) hf
      · have hf := ip c_65 hf
        refine lv_iconst (v := 1) hx hb dX4_plans_68 (by decide) ?_
        refine lv_goto (tgt := 73) hx hb dX4_plans_69 (by decide) ?_
        exact wX4_plans_73 hR X N (fX4_plans_35 N n) ih _ _ _ _ _ _ _ _ _ _ _ _ _ _ _ I (lv_sub hl [1, 2, 3, 4, 5, 6, 7, 8, 0] rfl) hf
theorem wX4_plans_0 {E : EV} {l : Launch} {p : Program} {e : Env} {s : State} {m : MethodId} {args : Array Value} {below : List Frame} {meth : Method} {c : Code} {R : Room} {h : Nat} {S : St} {res : (Int32 × TS)} (hR : 3 ≤ R.frames ∧ 65 ≤ R.locals) (X : MX E p s m args meth c cX4_plans 14 (some .boolean) RX4 "plans") (N : Nat) : ∀ (x1 : Int32) (σ : TS) (H : Heap) (locs : List Loc) (cells slots : Nat) (ls : Array Slot), WI E R s (twS h σ S) H locs cells slots → lv_has ls 14 [(0, .ref h), (1, .int x1)] → fX4_plans N σ x1 = some res → W p l e R s m args below meth c H locs cells slots (MQ below (Qd E R.cells R.slots (some (.int res.1)) (twS h res.2 S)) args s R.cells R.slots (fr E)) (F0 m 0 ls []) := by
  intro x1 σ H locs cells slots ls I hl hf
  obtain ⟨⟨hx, hb, hml, hown, hts⟩, -⟩ := id X
  unfold fX4_plans at hf
  refine lv_aload_n hx hb dX4_plans_0 rfl (lv_at hl 0 rfl) ?_
  refine lv_iload_n hx hb dX4_plans_1 rfl (lv_at hl 1 rfl) ?_
  refine lv_iconst (v := 0) hx hb dX4_plans_2 (by decide) ?_
  obtain ⟨v_62, ev_62, hf⟩ := ob hf
  refine tw_V (some (.int v_62)) (rs := [.int v_62]) (rest := []) (As := [.int x1, .int (0 : Int32)]) X I (mX4_in2 X.2.2.2.2.1 ev_62) lvX4_in2 hdX4_in2 ⟨Nat.le_trans (Nat.le_of_ble_eq_true rfl) hR.1, Nat.le_trans (Nat.le_of_ble_eq_true rfl) hR.2⟩ rfl hl.1 rfl (Nat.le_of_ble_eq_true rfl) rfl dX4_plans_3 (fun H locs cells slots I => ?_)
  refine lv_istore_n (lv' := [(2, .int v_62), (0, .ref h), (1, .int x1)]) hx hb dX4_plans_6 rfl hl (by decide) rfl (fun ls hl => ?_)
  refine lv_aload_n hx hb dX4_plans_7 rfl (lv_at hl 1 rfl) ?_
  refine lv_iload_n hx hb dX4_plans_8 rfl (lv_at hl 2 rfl) ?_
  refine lv_iconst (v := 1) hx hb dX4_plans_9 (by decide) ?_
  obtain ⟨v_64, ev_64, hf⟩ := ob hf
  refine tw_V (some (.int v_64)) (rs := [.int v_64]) (rest := []) (As := [.int x1, .int (1 : Int32)]) X I (mX4_in2 X.2.2.2.2.1 ev_64) lvX4_in2 hdX4_in2 ⟨Nat.le_trans (Nat.le_of_ble_eq_true rfl) hR.1, Nat.le_trans (Nat.le_of_ble_eq_true rfl) hR.2⟩ rfl hl.1 rfl (Nat.le_of_ble_eq_true rfl) rfl dX4_plans_10 (fun H locs cells slots I => ?_)
  refine lv_istore_n (lv' := [(3, .int v_64), (2, .int v_62), (0, .ref h), (1, .int x1)]) hx hb dX4_plans_13 rfl hl (by decide) rfl (fun ls hl => ?_)
  refine lv_aload_n hx hb dX4_plans_14 rfl (lv_at hl 2 rfl) ?_
  refine lv_iload_n hx hb dX4_plans_15 rfl (lv_at hl 3 rfl) ?_
  refine lv_iconst (v := 2) hx hb dX4_plans_16 (by decide) ?_
  obtain ⟨v_66, ev_66, hf⟩ := ob hf
  refine tw_V (some (.int v_66)) (rs := [.int v_66]) (rest := []) (As := [.int x1, .int (2 : Int32)]) X I (mX4_in2 X.2.2.2.2.1 ev_66) lvX4_in2 hdX4_in2 ⟨Nat.le_trans (Nat.le_of_ble_eq_true rfl) hR.1, Nat.le_trans (Nat.le_of_ble_eq_true rfl) hR.2⟩ rfl hl.1 rfl (Nat.le_of_ble_eq_true rfl) rfl dX4_plans_17 (fun H locs cells slots I => ?_)
  refine lv_istore (lv' := [(4, .int v_66), (3, .int v_64), (2, .int v_62), (0, .ref h), (1, .int x1)]) hx hb dX4_plans_20 hl (by decide) rfl (fun ls hl => ?_)
  refine lv_aload_n hx hb dX4_plans_22 rfl (lv_at hl 3 rfl) ?_
  refine lv_iload_n hx hb dX4_plans_23 rfl (lv_at hl 4 rfl) ?_
  obtain ⟨v_68, ev_68, hf⟩ := ob hf
  refine tw_V (some (.int v_68)) (rs := [.int v_68]) (rest := []) (As := [.int x1]) X I (mX4_personsAboard X.2.2.2.2.1 ev_68) lvX4_personsAboard hdX4_personsAboard ⟨Nat.le_trans (Nat.le_of_ble_eq_true rfl) hR.1, Nat.le_trans (Nat.le_of_ble_eq_true rfl) hR.2⟩ rfl hl.1 rfl (Nat.le_of_ble_eq_true rfl) rfl dX4_plans_24 (fun H locs cells slots I => ?_)
  refine lv_istore (lv' := [(5, .int v_68), (4, .int v_66), (3, .int v_64), (2, .int v_62), (0, .ref h), (1, .int x1)]) hx hb dX4_plans_27 hl (by decide) rfl (fun ls hl => ?_)
  refine lv_iconst (v := 1) hx hb dX4_plans_29 (by decide) ?_
  refine lv_istore (lv' := [(6, .int (1 : Int32)), (5, .int v_68), (4, .int v_66), (3, .int v_64), (2, .int v_62), (0, .ref h), (1, .int x1)]) hx hb dX4_plans_30 hl (by decide) rfl (fun ls hl => ?_)
  refine lv_iconst (v := 0) hx hb dX4_plans_32 (by decide) ?_
  refine lv_istore (lv' := [(7, .int (0 : Int32)), (6, .int (1 : Int32)), (5, .int v_68), (4, .int v_66), (3, .int v_64), (2, .int v_62), (0, .ref h), (1, .int x1)]) hx hb dX4_plans_33 hl (by decide) rfl (fun ls hl => ?_)
  exact wX4_plans_35 hR X N N _ _ _ _ _ _ _ _ _ _ _ _ _ I (lv_sub hl [6, 7, 5, 4, 3, 2, 1, 0] rfl) hf
theorem mX4_plans {E : EV} {l : Launch} {h : Nat} {S : St} {N : Nat} {σ : TS} {x1 : Int32} {res : (Int32 × TS)} (hE : EK E) (hf : fX4_plans N σ x1 = some res) : CM E l yX4_plans (ws_ yX4_plans cX4_plans 14 (some .boolean)) 3 65 [.ref h, .int x1] (twS h σ S) (some (.int res.1)) (twS h res.2 S) := by
  refine CM.of hE (by decide) rfl rfl (Nat.le_of_ble_eq_true rfl) ?_
  intro p e s m below meth c X I ls hl
  exact wX4_plans_0 ⟨Nat.le_refl _, Nat.le_refl _⟩ X N _ _ _ _ _ _ _ I hl hf
/-! stop(III)I -/
theorem wX4_stop_50 {E : EV} {l : Launch} {p : Program} {e : Env} {s : State} {m : MethodId} {args : Array Value} {below : List Frame} {meth : Method} {c : Code} {R : Room} {h : Nat} {S : St} {res : (Int32 × TS)} (hR : 4 ≤ R.frames ∧ 98 ≤ R.locals) (X : MX E p s m args meth c cX4_stop 5 (some .int) RX4 "stop") (N : Nat) : ∀ (x1 : Int32) (x2 : Int32) (x3 : Int32) (y1 : Int32) (σ : TS) (H : Heap) (locs : List Loc) (cells slots : Nat) (ls : Array Slot), WI E R s (twS h σ S) H locs cells slots → lv_has ls 5 [(0, .ref h), (1, .int x1), (2, .int x2), (3, .int x3)] → fX4_stop_50 N x1 x2 x3 y1 σ = some res → W p l e R s m args below meth c H locs cells slots (MQ below (Qd E R.cells R.slots (some (.int res.1)) (twS h res.2 S)) args s R.cells R.slots (fr E)) (F0 m 50 ls [.int y1, .ref h]) := by
  intro x1 x2 x3 y1 σ H locs cells slots ls I hl hf
  obtain ⟨⟨hx, hb, hml, hown, hts⟩, -⟩ := id X
  unfold fX4_stop_50 at hf
  refine lv_iconst (v := 1) hx hb dX4_stop_50 (by decide) ?_
  obtain ⟨v_1, ev_1, hf⟩ := ob hf
  refine tw_V (some (.int v_1.1)) (rs := [.int v_1.1]) (rest := []) (As := [.int y1, .int (1 : Int32)]) X I (mX4_fails X.2.2.2.2.1 ev_1) lvX4_fails hdX4_fails ⟨Nat.le_trans (Nat.le_of_ble_eq_true rfl) hR.1, Nat.le_trans (Nat.le_of_ble_eq_true rfl) hR.2⟩ rfl hl.1 rfl (Nat.le_of_ble_eq_true rfl) rfl dX4_stop_51 (fun H locs cells slots I => ?_)
  refine lv_if_eq (tgt := 59) hx hb dX4_stop_54 (by decide) (fun c_54 => ?_) (fun c_54 => ?_)
  · have hf := ip c_54 hf
    refine lv_aload_n hx hb dX4_stop_59 rfl (lv_at hl 0 rfl) ?_
    refine lv_iload_n hx hb dX4_stop_60 rfl (lv_at hl 1 rfl) ?_
    obtain ⟨σ_4, eσ_4, hf⟩ := ob hf
    refine tw_V none (rs := []) (rest := []) (As := [.int x1]) X I (mX4_lists X.2.2.2.2.1 eσ_4) lvX4_lists hdX4_lists ⟨Nat.le_trans (Nat.le_of_ble_eq_true rfl) hR.1, Nat.le_trans (Nat.le_of_ble_eq_true rfl) hR.2⟩ rfl hl.1 rfl (Nat.le_of_ble_eq_true rfl) rfl dX4_stop_61 (fun H locs cells slots I => ?_)
    refine lv_aload_n hx hb dX4_stop_64 rfl (lv_at hl 0 rfl) ?_
    refine lv_iload_n hx hb dX4_stop_65 rfl (lv_at hl 1 rfl) ?_
    obtain ⟨v_5, ev_5, hf⟩ := ob hf
    refine tw_V (some (.int v_5.1)) (rs := [.int v_5.1]) (rest := []) (As := [.int x1]) X I (mX4_plans X.2.2.2.2.1 ev_5) lvX4_plans hdX4_plans ⟨Nat.le_trans (Nat.le_of_ble_eq_true rfl) hR.1, Nat.le_trans (Nat.le_of_ble_eq_true rfl) hR.2⟩ rfl hl.1 rfl (Nat.le_of_ble_eq_true rfl) rfl dX4_stop_66 (fun H locs cells slots I => ?_)
    refine lv_istore (lv' := [(4, .int v_5.1), (0, .ref h), (1, .int x1), (2, .int x2), (3, .int x3)]) hx hb dX4_stop_69 hl (by decide) rfl (fun ls hl => ?_)
    refine lv_iload_n hx hb dX4_stop_71 rfl (lv_at hl 4 rfl) ?_
    by_cases c_72_0 : x3 = 0
    · have hf := ip c_72_0 hf
      refine lv_tableIn (off := 36) (tgt := 108) hx hb dX4_stop_72 (by rw [c_72_0]; decide) (by rw [c_72_0]; decide) (by rw [c_72_0]; rfl) (by decide) ?_
      refine lv_aload_n hx hb dX4_stop_108 rfl (lv_at hl 1 rfl) ?_
      refine tw_get X I 32 (v := .ref (h + 13)) (by decide) q2719 rfl dX4_stop_109 ?_
      refine lv_iload_n hx hb dX4_stop_112 rfl (lv_at hl 3 rfl) ?_
      obtain ⟨v_7, ev_7, hf⟩ := ob hf
      refine tw_ald X I 13 (by decide) (by decide) (by decide) ev_7 dX4_stop_113 ?_
      refine lv_iconst (v := 2) hx hb dX4_stop_114 (by decide) ?_
      refine lv_idiv hx hb dX4_stop_115 (by decide) ?_
      cases os hf
      exact r_iret X I dX4_stop_116
    · have hf := im c_72_0 hf
      by_cases c_72_1 : x3 = 1
      · have hf := ip c_72_1 hf
        refine lv_tableIn (off := 45) (tgt := 117) hx hb dX4_stop_72 (by rw [c_72_1]; decide) (by rw [c_72_1]; decide) (by rw [c_72_1]; rfl) (by decide) ?_
        refine lv_aload_n hx hb dX4_stop_117 rfl (lv_at hl 1 rfl) ?_
        refine tw_get X I 32 (v := .ref (h + 13)) (by decide) q2719 rfl dX4_stop_118 ?_
        refine lv_iload_n hx hb dX4_stop_121 rfl (lv_at hl 3 rfl) ?_
        obtain ⟨v_8, ev_8, hf⟩ := ob hf
        refine tw_ald X I 13 (by decide) (by decide) (by decide) ev_8 dX4_stop_122 ?_
        refine lv_iconst (v := 1) hx hb dX4_stop_123 (by decide) ?_
        refine lv_iand hx hb dX4_stop_124 ?_
        cases os hf
        exact r_iret X I dX4_stop_125
      · have hf := im c_72_1 hf
        by_cases c_72_2 : x3 = 2
        · have hf := ip c_72_2 hf
          refine lv_tableIn (off := 54) (tgt := 126) hx hb dX4_stop_72 (by rw [c_72_2]; decide) (by rw [c_72_2]; decide) (by rw [c_72_2]; rfl) (by decide) ?_
          refine lv_aload_n hx hb dX4_stop_126 rfl (lv_at hl 1 rfl) ?_
          refine lv_aload_n hx hb dX4_stop_127 rfl (lv_at hl 1 rfl) ?_
          refine tw_get X I 32 (v := .ref (h + 13)) (by decide) q2719 rfl dX4_stop_128 ?_
          refine lv_iload_n hx hb dX4_stop_131 rfl (lv_at hl 3 rfl) ?_
          obtain ⟨v_9, ev_9, hf⟩ := ob hf
          refine tw_ald X I 13 (by decide) (by decide) (by decide) ev_9 dX4_stop_132 ?_
          obtain ⟨v_10, ev_10, hf⟩ := ob hf
          refine tw_V (some (.int v_10)) (rs := [.int v_10]) (rest := []) (As := [.int v_9]) X I (mX4_zoneOf X.2.2.2.2.1 ev_10) lvX4_zoneOf hdX4_zoneOf ⟨Nat.le_trans (Nat.le_of_ble_eq_true rfl) hR.1, Nat.le_trans (Nat.le_of_ble_eq_true rfl) hR.2⟩ rfl hl.1 rfl (Nat.le_of_ble_eq_true rfl) rfl dX4_stop_133 (fun H locs cells slots I => ?_)
          cases os hf
          exact r_iret X I dX4_stop_136
        · have hf := im c_72_2 hf
          by_cases c_72_3 : x3 = 3
          · have hf := ip c_72_3 hf
            refine lv_tableIn (off := 65) (tgt := 137) hx hb dX4_stop_72 (by rw [c_72_3]; decide) (by rw [c_72_3]; decide) (by rw [c_72_3]; rfl) (by decide) ?_
            refine lv_aload_n hx hb dX4_stop_137 rfl (lv_at hl 1 rfl) ?_
            refine tw_get X I 33 (v := .ref (h + 14)) (by decide) q2720 rfl dX4_stop_138 ?_
            refine lv_iload_n hx hb dX4_stop_141 rfl (lv_at hl 3 rfl) ?_
            obtain ⟨v_12, ev_12, hf⟩ := ob hf
            refine tw_ald X I 14 (by decide) (by decide) (by decide) ev_12 dX4_stop_142 ?_
            cases os hf
            exact r_iret X I dX4_stop_143
          · have hf := im c_72_3 hf
            by_cases c_72_4 : x3 = 4
            · have hf := ip c_72_4 hf
              refine lv_tableIn (off := 72) (tgt := 144) hx hb dX4_stop_72 (by rw [c_72_4]; decide) (by rw [c_72_4]; decide) (by rw [c_72_4]; rfl) (by decide) ?_
              refine lv_aload_n hx hb dX4_stop_144 rfl (lv_at hl 1 rfl) ?_
              refine tw_get X I 34 (v := .ref (h + 15)) (by decide) q2721 rfl dX4_stop_145 ?_
              refine lv_iload_n hx hb dX4_stop_148 rfl (lv_at hl 3 rfl) ?_
              obtain ⟨v_13, ev_13, hf⟩ := ob hf
              refine tw_ald X I 15 (by decide) (by decide) (by decide) ev_13 dX4_stop_149 ?_
              cases os hf
              exact r_iret X I dX4_stop_150
            · have hf := im c_72_4 hf
              refine lv_tableOut (tgt := 151) hx hb dX4_stop_72 (by exact sw_out 0 4 (fun k h1 h2 => by rcases (show k = 0 ∨ k = 1 ∨ k = 2 ∨ k = 3 ∨ k = 4 by omega) with rfl | rfl | rfl | rfl | rfl; exact c_72_0; exact c_72_1; exact c_72_2; exact c_72_3; exact c_72_4)) (by decide) ?_
              refine lv_aload_n hx hb dX4_stop_151 rfl (lv_at hl 1 rfl) ?_
              refine tw_get X I 35 (v := .ref (h + 16)) (by decide) q2722 rfl dX4_stop_152 ?_
              refine lv_iload_n hx hb dX4_stop_155 rfl (lv_at hl 3 rfl) ?_
              obtain ⟨v_14, ev_14, hf⟩ := ob hf
              refine tw_ald X I 16 (by decide) (by decide) (by decide) ev_14 dX4_stop_156 ?_
              cases os hf
              exact r_iret X I dX4_stop_157
  · have hf := im c_54 hf
    refine lv_iconst (v := 0) hx hb dX4_stop_57 (by decide) ?_
    cases os hf
    exact r_iret X I dX4_stop_58
theorem wX4_stop_49 {E : EV} {l : Launch} {p : Program} {e : Env} {s : State} {m : MethodId} {args : Array Value} {below : List Frame} {meth : Method} {c : Code} {R : Room} {h : Nat} {S : St} {res : (Int32 × TS)} (hR : 4 ≤ R.frames ∧ 98 ≤ R.locals) (X : MX E p s m args meth c cX4_stop 5 (some .int) RX4 "stop") (N : Nat) : ∀ (x1 : Int32) (x2 : Int32) (x3 : Int32) (σ : TS) (H : Heap) (locs : List Loc) (cells slots : Nat) (ls : Array Slot), WI E R s (twS h σ S) H locs cells slots → lv_has ls 5 [(0, .ref h), (1, .int x1), (2, .int x2), (3, .int x3)] → fX4_stop_49 N x1 x2 x3 σ = some res → W p l e R s m args below meth c H locs cells slots (MQ below (Qd E R.cells R.slots (some (.int res.1)) (twS h res.2 S)) args s R.cells R.slots (fr E)) (F0 m 49 ls [.ref h]) := by
  intro x1 x2 x3 σ H locs cells slots ls I hl hf
  obtain ⟨⟨hx, hb, hml, hown, hts⟩, -⟩ := id X
  unfold fX4_stop_49 at hf
  refine lv_iconst (v := 0) hx hb dX4_stop_49 (by decide) ?_
  exact wX4_stop_50 hR X N _ _ _ _ _ _ _ _ _ _ I (lv_sub hl [0, 1, 2, 3] rfl) hf
theorem wX4_stop_0 {E : EV} {l : Launch} {p : Program} {e : Env} {s : State} {m : MethodId} {args : Array Value} {below : List Frame} {meth : Method} {c : Code} {R : Room} {h : Nat} {S : St} {res : (Int32 × TS)} (hR : 4 ≤ R.frames ∧ 98 ≤ R.locals) (X : MX E p s m args meth c cX4_stop 5 (some .int) RX4 "stop") (N : Nat) : ∀ (x1 : Int32) (x2 : Int32) (x3 : Int32) (σ : TS) (H : Heap) (locs : List Loc) (cells slots : Nat) (ls : Array Slot), WI E R s (twS h σ S) H locs cells slots → lv_has ls 5 [(0, .ref h), (1, .int x1), (2, .int x2), (3, .int x3)] → fX4_stop N σ x1 x2 x3 = some res → W p l e R s m args below meth c H locs cells slots (MQ below (Qd E R.cells R.slots (some (.int res.1)) (twS h res.2 S)) args s R.cells R.slots (fr E)) (F0 m 0 ls []) := by
  intro x1 x2 x3 σ H locs cells slots ls I hl hf
  obtain ⟨⟨hx, hb, hml, hown, hts⟩, -⟩ := id X
  unfold fX4_stop at hf
  refine lv_aload_n hx hb dX4_stop_0 rfl (lv_at hl 0 rfl) ?_
  refine lv_iconst (v := 0) hx hb dX4_stop_1 (by decide) ?_
  obtain ⟨σ_15, eσ_15, hf⟩ := ol hf
  refine tw_put X I 0 (ty := .int) (by decide) (by decide) rfl q2687 rfl rfl rfl rfl eσ_15 dX4_stop_2 (fun H locs I => ?_)
  refine lv_aload_n hx hb dX4_stop_5 rfl (lv_at hl 0 rfl) ?_
  refine lv_iload_n hx hb dX4_stop_6 rfl (lv_at hl 1 rfl) ?_
  obtain ⟨v_16, ev_16, hf⟩ := ob hf
  refine tw_V (some (.int v_16.1)) (rs := [.int v_16.1]) (rest := []) (As := [.int x1]) X I (mX4_noTaxi X.2.2.2.2.1 ev_16) lvX4_noTaxi hdX4_noTaxi ⟨Nat.le_trans (Nat.le_of_ble_eq_true rfl) hR.1, Nat.le_trans (Nat.le_of_ble_eq_true rfl) hR.2⟩ rfl hl.1 rfl (Nat.le_of_ble_eq_true rfl) rfl dX4_stop_7 (fun H locs cells slots I => ?_)
  refine lv_if_ne (tgt := 57) hx hb dX4_stop_10 (by decide) (fun c_10 => ?_) (fun c_10 => ?_)
  · have hf := im c_10 hf
    refine lv_iconst (v := 0) hx hb dX4_stop_57 (by decide) ?_
    cases os hf
    exact r_iret X I dX4_stop_58
  · have hf := ip c_10 hf
    refine lv_aload_n hx hb dX4_stop_13 rfl (lv_at hl 0 rfl) ?_
    refine lv_iload_n hx hb dX4_stop_14 rfl (lv_at hl 2 rfl) ?_
    refine lv_i2l hx hb dX4_stop_15 rfl ?_
    refine lv_lconst (v := 0) hx hb dX4_stop_16 (by decide) ?_
    refine lv_aload_n hx hb dX4_stop_17 rfl (lv_at hl 0 rfl) ?_
    refine lv_iload_n hx hb dX4_stop_18 rfl (lv_at hl 1 rfl) ?_
    refine lv_bipush (v := 11) hx hb dX4_stop_19 (by decide) ?_
    obtain ⟨v_18, ev_18, hf⟩ := ob hf
    refine tw_V (some (.int v_18)) (rs := [.int v_18, .long (0 : Int64), .long (x2.toInt64), .ref h]) (rest := [.long (0 : Int64), .long (x2.toInt64), .ref h]) (As := [.int x1, .int (11 : Int32)]) X I (mX4_in2 X.2.2.2.2.1 ev_18) lvX4_in2 hdX4_in2 ⟨Nat.le_trans (Nat.le_of_ble_eq_true rfl) hR.1, Nat.le_trans (Nat.le_of_ble_eq_true rfl) hR.2⟩ rfl hl.1 rfl (Nat.le_of_ble_eq_true rfl) rfl dX4_stop_21 (fun H locs cells slots I => ?_)
    refine lv_iconst (v := 1) hx hb dX4_stop_24 (by decide) ?_
    refine lv_isub hx hb dX4_stop_25 ?_
    refine lv_i2l hx hb dX4_stop_26 rfl ?_
    obtain ⟨v_20, ev_20, hf⟩ := ob hf
    refine tw_S (some (.int v_20)) (rs := [.int v_20, .ref h]) (rest := [.ref h]) (As := [.long (x2.toInt64), .long (0 : Int64), .long ((v_18 - (1 : Int32)).toInt64)]) X I (mX4_in X.2.2.2.2.1 ev_20) lvX4_in hdX4_in ⟨Nat.le_trans (Nat.le_of_ble_eq_true rfl) hR.1, Nat.le_trans (Nat.le_of_ble_eq_true rfl) hR.2⟩ rfl hl.1 rfl (Nat.le_of_ble_eq_true rfl) rfl dX4_stop_27 (fun H locs cells slots I => ?_)
    refine lv_if_eq (tgt := 49) hx hb dX4_stop_30 (by decide) (fun c_30 => ?_) (fun c_30 => ?_)
    · have hf := ip c_30 hf
      exact wX4_stop_49 hR X N _ _ _ _ _ _ _ _ _ I (lv_sub hl [0, 1, 2, 3] rfl) hf
    · have hf := im c_30 hf
      refine lv_iload_n hx hb dX4_stop_33 rfl (lv_at hl 3 rfl) ?_
      refine lv_i2l hx hb dX4_stop_34 rfl ?_
      refine lv_lconst (v := 0) hx hb dX4_stop_35 (by decide) ?_
      refine lv_ldc2 (v := 5) hx hb hown (hts _ q3032) dX4_stop_36 ?_
      obtain ⟨v_22, ev_22, hf⟩ := ob hf
      refine tw_S (some (.int v_22)) (rs := [.int v_22, .ref h]) (rest := [.ref h]) (As := [.long (x3.toInt64), .long (0 : Int64), .long (5 : Int64)]) X I (mX4_in X.2.2.2.2.1 ev_22) lvX4_in hdX4_in ⟨Nat.le_trans (Nat.le_of_ble_eq_true rfl) hR.1, Nat.le_trans (Nat.le_of_ble_eq_true rfl) hR.2⟩ rfl hl.1 rfl (Nat.le_of_ble_eq_true rfl) rfl dX4_stop_39 (fun H locs cells slots I => ?_)
      refine lv_if_eq (tgt := 49) hx hb dX4_stop_42 (by decide) (fun c_42 => ?_) (fun c_42 => ?_)
      · have hf := ip c_42 hf
        exact wX4_stop_49 hR X N _ _ _ _ _ _ _ _ _ I (lv_sub hl [0, 1, 2, 3] rfl) hf
      · have hf := im c_42 hf
        refine lv_iconst (v := 1) hx hb dX4_stop_45 (by decide) ?_
        refine lv_goto (tgt := 50) hx hb dX4_stop_46 (by decide) ?_
        exact wX4_stop_50 hR X N _ _ _ _ _ _ _ _ _ _ I (lv_sub hl [0, 1, 2, 3] rfl) hf
theorem mX4_stop {E : EV} {l : Launch} {h : Nat} {S : St} {N : Nat} {σ : TS} {x1 : Int32} {x2 : Int32} {x3 : Int32} {res : (Int32 × TS)} (hE : EK E) (hf : fX4_stop N σ x1 x2 x3 = some res) : CM E l yX4_stop (ws_ yX4_stop cX4_stop 5 (some .int)) 4 98 [.ref h, .int x1, .int x2, .int x3] (twS h σ S) (some (.int res.1)) (twS h res.2 S) := by
  refine CM.of hE (by decide) rfl rfl (Nat.le_of_ble_eq_true rfl) ?_
  intro p e s m below meth c X I ls hl
  exact wX4_stop_0 ⟨Nat.le_refl _, Nat.le_refl _⟩ X N _ _ _ _ _ _ _ _ _ I hl hf
/-! noRide(I)Z -/
theorem lvX4_noRide : GoodIn lw_all (wsV RX4 380 RX4 yX4_noRide (ws_ yX4_noRide cX4_noRide 2 (some .boolean))) := lw_V q3064 q3066 qs80 q120 q3067
theorem hdX4_noRide : yX4_noRide.cls = RX4 ∧ yX4_noRide.cls ≠ "java/lang/invoke/MethodHandle" ∧ yX4_noRide.cls ≠ "java/lang/invoke/VarHandle" ∧ (parseMethodDescriptor yX4_noRide.desc).map (fun d => d.parameters.length) = some 1 := by decide +kernel
theorem wX4_noRide_0 {E : EV} {l : Launch} {p : Program} {e : Env} {s : State} {m : MethodId} {args : Array Value} {below : List Frame} {meth : Method} {c : Code} {R : Room} {h : Nat} {S : St} {res : (Int32 × TS)} (hR : 1 ≤ R.frames ∧ 25 ≤ R.locals) (X : MX E p s m args meth c cX4_noRide 2 (some .boolean) RX4 "noRide") : ∀ (x1 : Int32) (σ : TS) (H : Heap) (locs : List Loc) (cells slots : Nat) (ls : Array Slot), WI E R s (twS h σ S) H locs cells slots → lv_has ls 2 [(0, .ref h), (1, .int x1)] → fX4_noRide σ x1 = some res → W p l e R s m args below meth c H locs cells slots (MQ below (Qd E R.cells R.slots (some (.int res.1)) (twS h res.2 S)) args s R.cells R.slots (fr E)) (F0 m 0 ls []) := by
  intro x1 σ H locs cells slots ls I hl hf
  obtain ⟨⟨hx, hb, hml, hown, hts⟩, -⟩ := id X
  unfold fX4_noRide at hf
  refine lv_aload_n hx hb dX4_noRide_0 rfl (lv_at hl 0 rfl) ?_
  refine lv_iload_n hx hb dX4_noRide_1 rfl (lv_at hl 1 rfl) ?_
  refine lv_i2l hx hb dX4_noRide_2 rfl ?_
  refine lv_lconst (v := 0) hx hb dX4_noRide_3 (by decide) ?_
  refine lv_aload_n hx hb dX4_noRide_4 rfl (lv_at hl 0 rfl) ?_
  refine tw_get X I 1 (v := .ref (h + 1)) (by decide) q2688 rfl dX4_noRide_5 ?_
  refine lv_iconst (v := 1) hx hb dX4_noRide_8 (by decide) ?_
  obtain ⟨v_1, ev_1, hf⟩ := ob hf
  refine tw_ald X I 1 (by decide) (by decide) (by decide) ev_1 dX4_noRide_9 ?_
  refine lv_iconst (v := 1) hx hb dX4_noRide_10 (by decide) ?_
  refine lv_isub hx hb dX4_noRide_11 ?_
  refine lv_i2l hx hb dX4_noRide_12 rfl ?_
  obtain ⟨v_2, ev_2, hf⟩ := ob hf
  refine tw_S (some (.int v_2)) (rs := [.int v_2, .ref h]) (rest := [.ref h]) (As := [.long (x1.toInt64), .long (0 : Int64), .long ((v_1 - (1 : Int32)).toInt64)]) X I (mX4_in X.2.2.2.2.1 ev_2) lvX4_in hdX4_in ⟨Nat.le_trans (Nat.le_of_ble_eq_true rfl) hR.1, Nat.le_trans (Nat.le_of_ble_eq_true rfl) hR.2⟩ rfl hl.1 rfl (Nat.le_of_ble_eq_true rfl) rfl dX4_noRide_13 (fun H locs cells slots I => ?_)
  refine lv_iconst (v := 1) hx hb dX4_noRide_16 (by decide) ?_
  obtain ⟨v_4, ev_4, hf⟩ := ob hf
  refine tw_V (some (.int v_4.1)) (rs := [.int v_4.1]) (rest := []) (As := [.int v_2, .int (1 : Int32)]) X I (mX4_fails X.2.2.2.2.1 ev_4) lvX4_fails hdX4_fails ⟨Nat.le_trans (Nat.le_of_ble_eq_true rfl) hR.1, Nat.le_trans (Nat.le_of_ble_eq_true rfl) hR.2⟩ rfl hl.1 rfl (Nat.le_of_ble_eq_true rfl) rfl dX4_noRide_17 (fun H locs cells slots I => ?_)
  by_cases d_20 : ¬ (v_4.1 = 0 ∨ v_4.1 = 1)
  · rw [if_neg d_20] at hf; cases hf
  have c_20 := Decidable.not_not.mp d_20
  have hf := ip c_20 hf
  cases os hf
  exact r_zret X I c_20 dX4_noRide_20
theorem mX4_noRide {E : EV} {l : Launch} {h : Nat} {S : St} {σ : TS} {x1 : Int32} {res : (Int32 × TS)} (hE : EK E) (hf : fX4_noRide σ x1 = some res) : CM E l yX4_noRide (ws_ yX4_noRide cX4_noRide 2 (some .boolean)) 1 25 [.ref h, .int x1] (twS h σ S) (some (.int res.1)) (twS h res.2 S) := by
  refine CM.of hE (by decide) rfl rfl (Nat.le_of_ble_eq_true rfl) ?_
  intro p e s m below meth c X I ls hl
  exact wX4_noRide_0 ⟨Nat.le_refl _, Nat.le_refl _⟩ X _ _ _ _ _ _ _ I hl hf
/-! ride(II)I -/
theorem wX4_ride_0 {E : EV} {l : Launch} {p : Program} {e : Env} {s : State} {m : MethodId} {args : Array Value} {below : List Frame} {meth : Method} {c : Code} {R : Room} {h : Nat} {S : St} {res : (Int32 × TS)} (hR : 3 ≤ R.frames ∧ 65 ≤ R.locals) (X : MX E p s m args meth c cX4_ride 3 (some .int) RX4 "ride") : ∀ (x1 : Int32) (x2 : Int32) (σ : TS) (H : Heap) (locs : List Loc) (cells slots : Nat) (ls : Array Slot), WI E R s (twS h σ S) H locs cells slots → lv_has ls 3 [(0, .ref h), (1, .int x1), (2, .int x2)] → fX4_ride σ x1 x2 = some res → W p l e R s m args below meth c H locs cells slots (MQ below (Qd E R.cells R.slots (some (.int res.1)) (twS h res.2 S)) args s R.cells R.slots (fr E)) (F0 m 0 ls []) := by
  intro x1 x2 σ H locs cells slots ls I hl hf
  obtain ⟨⟨hx, hb, hml, hown, hts⟩, -⟩ := id X
  unfold fX4_ride at hf
  refine lv_aload_n hx hb dX4_ride_0 rfl (lv_at hl 0 rfl) ?_
  refine lv_iconst (v := 0) hx hb dX4_ride_1 (by decide) ?_
  obtain ⟨σ_1, eσ_1, hf⟩ := ol hf
  refine tw_put X I 0 (ty := .int) (by decide) (by decide) rfl q2687 rfl rfl rfl rfl eσ_1 dX4_ride_2 (fun H locs I => ?_)
  refine lv_aload_n hx hb dX4_ride_5 rfl (lv_at hl 0 rfl) ?_
  refine lv_iload_n hx hb dX4_ride_6 rfl (lv_at hl 1 rfl) ?_
  obtain ⟨v_2, ev_2, hf⟩ := ob hf
  refine tw_V (some (.int v_2.1)) (rs := [.int v_2.1]) (rest := []) (As := [.int x1]) X I (mX4_noRide X.2.2.2.2.1 ev_2) lvX4_noRide hdX4_noRide ⟨Nat.le_trans (Nat.le_of_ble_eq_true rfl) hR.1, Nat.le_trans (Nat.le_of_ble_eq_true rfl) hR.2⟩ rfl hl.1 rfl (Nat.le_of_ble_eq_true rfl) rfl dX4_ride_7 (fun H locs cells slots I => ?_)
  refine lv_if_ne (tgt := 30) hx hb dX4_ride_10 (by decide) (fun c_10 => ?_) (fun c_10 => ?_)
  · have hf := im c_10 hf
    refine lv_iconst (v := 0) hx hb dX4_ride_30 (by decide) ?_
    cases os hf
    exact r_iret X I dX4_ride_31
  · have hf := ip c_10 hf
    refine lv_aload_n hx hb dX4_ride_13 rfl (lv_at hl 0 rfl) ?_
    refine lv_iload_n hx hb dX4_ride_14 rfl (lv_at hl 2 rfl) ?_
    refine lv_i2l hx hb dX4_ride_15 rfl ?_
    refine lv_lconst (v := 0) hx hb dX4_ride_16 (by decide) ?_
    refine lv_ldc2 (v := 13) hx hb hown (hts _ q3068) dX4_ride_17 ?_
    obtain ⟨v_4, ev_4, hf⟩ := ob hf
    refine tw_S (some (.int v_4)) (rs := [.int v_4, .ref h]) (rest := [.ref h]) (As := [.long (x2.toInt64), .long (0 : Int64), .long (13 : Int64)]) X I (mX4_in X.2.2.2.2.1 ev_4) lvX4_in hdX4_in ⟨Nat.le_trans (Nat.le_of_ble_eq_true rfl) hR.1, Nat.le_trans (Nat.le_of_ble_eq_true rfl) hR.2⟩ rfl hl.1 rfl (Nat.le_of_ble_eq_true rfl) rfl dX4_ride_20 (fun H locs cells slots I => ?_)
    refine lv_iconst (v := 1) hx hb dX4_ride_23 (by decide) ?_
    obtain ⟨v_6, ev_6, hf⟩ := ob hf
    refine tw_V (some (.int v_6.1)) (rs := [.int v_6.1]) (rest := []) (As := [.int v_4, .int (1 : Int32)]) X I (mX4_fails X.2.2.2.2.1 ev_6) lvX4_fails hdX4_fails ⟨Nat.le_trans (Nat.le_of_ble_eq_true rfl) hR.1, Nat.le_trans (Nat.le_of_ble_eq_true rfl) hR.2⟩ rfl hl.1 rfl (Nat.le_of_ble_eq_true rfl) rfl dX4_ride_24 (fun H locs cells slots I => ?_)
    refine lv_if_eq (tgt := 32) hx hb dX4_ride_27 (by decide) (fun c_27 => ?_) (fun c_27 => ?_)
    · have hf := ip c_27 hf
      refine lv_iload_n hx hb dX4_ride_32 rfl (lv_at hl 2 rfl) ?_
      refine lv_bipush (v := 7) hx hb dX4_ride_33 (by decide) ?_
      refine lv_icmp_ge (tgt := 45) hx hb dX4_ride_35 (by decide) (fun c_35 => ?_) (fun c_35 => ?_)
      · have hf := ip c_35 hf
        refine lv_iload_n hx hb dX4_ride_45 rfl (lv_at hl 2 rfl) ?_
        by_cases c_46_0 : x2 = 7
        · have hf := ip c_46_0 hf
          refine lv_tableIn (off := 38) (tgt := 84) hx hb dX4_ride_46 (by rw [c_46_0]; decide) (by rw [c_46_0]; decide) (by rw [c_46_0]; rfl) (by decide) ?_
          refine lv_aload_n hx hb dX4_ride_84 rfl (lv_at hl 0 rfl) ?_
          refine lv_iload_n hx hb dX4_ride_85 rfl (lv_at hl 1 rfl) ?_
          obtain ⟨v_8, ev_8, hf⟩ := ob hf
          refine tw_V (some (.int v_8)) (rs := [.int v_8]) (rest := []) (As := [.int x1]) X I (mX4_directOf X.2.2.2.2.1 ev_8) lvX4_directOf hdX4_directOf ⟨Nat.le_trans (Nat.le_of_ble_eq_true rfl) hR.1, Nat.le_trans (Nat.le_of_ble_eq_true rfl) hR.2⟩ rfl hl.1 rfl (Nat.le_of_ble_eq_true rfl) rfl dX4_ride_86 (fun H locs cells slots I => ?_)
          cases os hf
          exact r_iret X I dX4_ride_89
        · have hf := im c_46_0 hf
          by_cases c_46_1 : x2 = 8
          · have hf := ip c_46_1 hf
            refine lv_tableIn (off := 44) (tgt := 90) hx hb dX4_ride_46 (by rw [c_46_1]; decide) (by rw [c_46_1]; decide) (by rw [c_46_1]; rfl) (by decide) ?_
            refine lv_aload_n hx hb dX4_ride_90 rfl (lv_at hl 0 rfl) ?_
            refine lv_iload_n hx hb dX4_ride_91 rfl (lv_at hl 1 rfl) ?_
            obtain ⟨v_10, ev_10, hf⟩ := ob hf
            refine tw_V (some (.int v_10)) (rs := [.int v_10]) (rest := []) (As := [.int x1]) X I (mX4_mostOf X.2.2.2.2.1 ev_10) lvX4_mostOf hdX4_mostOf ⟨Nat.le_trans (Nat.le_of_ble_eq_true rfl) hR.1, Nat.le_trans (Nat.le_of_ble_eq_true rfl) hR.2⟩ rfl hl.1 rfl (Nat.le_of_ble_eq_true rfl) rfl dX4_ride_92 (fun H locs cells slots I => ?_)
            cases os hf
            exact r_iret X I dX4_ride_95
          · have hf := im c_46_1 hf
            by_cases c_46_2 : x2 = 9
            · have hf := ip c_46_2 hf
              refine lv_tableIn (off := 50) (tgt := 96) hx hb dX4_ride_46 (by rw [c_46_2]; decide) (by rw [c_46_2]; decide) (by rw [c_46_2]; rfl) (by decide) ?_
              refine lv_aload_n hx hb dX4_ride_96 rfl (lv_at hl 0 rfl) ?_
              refine lv_iload_n hx hb dX4_ride_97 rfl (lv_at hl 1 rfl) ?_
              refine lv_bipush (v := 7) hx hb dX4_ride_98 (by decide) ?_
              obtain ⟨v_12, ev_12, hf⟩ := ob hf
              refine tw_V (some (.int v_12)) (rs := [.int v_12]) (rest := []) (As := [.int x1, .int (7 : Int32)]) X I (mX4_of X.2.2.2.2.1 ev_12) lvX4_of hdX4_of ⟨Nat.le_trans (Nat.le_of_ble_eq_true rfl) hR.1, Nat.le_trans (Nat.le_of_ble_eq_true rfl) hR.2⟩ rfl hl.1 rfl (Nat.le_of_ble_eq_true rfl) rfl dX4_ride_100 (fun H locs cells slots I => ?_)
              cases os hf
              exact r_iret X I dX4_ride_103
            · have hf := im c_46_2 hf
              by_cases c_46_3 : x2 = 10
              · have hf := ip c_46_3 hf
                refine lv_tableIn (off := 58) (tgt := 104) hx hb dX4_ride_46 (by rw [c_46_3]; decide) (by rw [c_46_3]; decide) (by rw [c_46_3]; rfl) (by decide) ?_
                refine lv_aload_n hx hb dX4_ride_104 rfl (lv_at hl 0 rfl) ?_
                refine lv_iload_n hx hb dX4_ride_105 rfl (lv_at hl 1 rfl) ?_
                refine lv_bipush (v := 8) hx hb dX4_ride_106 (by decide) ?_
                obtain ⟨v_14, ev_14, hf⟩ := ob hf
                refine tw_V (some (.int v_14)) (rs := [.int v_14]) (rest := []) (As := [.int x1, .int (8 : Int32)]) X I (mX4_of X.2.2.2.2.1 ev_14) lvX4_of hdX4_of ⟨Nat.le_trans (Nat.le_of_ble_eq_true rfl) hR.1, Nat.le_trans (Nat.le_of_ble_eq_true rfl) hR.2⟩ rfl hl.1 rfl (Nat.le_of_ble_eq_true rfl) rfl dX4_ride_108 (fun H locs cells slots I => ?_)
                cases os hf
                exact r_iret X I dX4_ride_111
              · have hf := im c_46_3 hf
                by_cases c_46_4 : x2 = 11
                · have hf := ip c_46_4 hf
                  refine lv_tableIn (off := 66) (tgt := 112) hx hb dX4_ride_46 (by rw [c_46_4]; decide) (by rw [c_46_4]; decide) (by rw [c_46_4]; rfl) (by decide) ?_
                  refine lv_aload_n hx hb dX4_ride_112 rfl (lv_at hl 0 rfl) ?_
                  refine lv_iload_n hx hb dX4_ride_113 rfl (lv_at hl 1 rfl) ?_
                  refine lv_bipush (v := 9) hx hb dX4_ride_114 (by decide) ?_
                  obtain ⟨v_16, ev_16, hf⟩ := ob hf
                  refine tw_V (some (.int v_16)) (rs := [.int v_16]) (rest := []) (As := [.int x1, .int (9 : Int32)]) X I (mX4_of X.2.2.2.2.1 ev_16) lvX4_of hdX4_of ⟨Nat.le_trans (Nat.le_of_ble_eq_true rfl) hR.1, Nat.le_trans (Nat.le_of_ble_eq_true rfl) hR.2⟩ rfl hl.1 rfl (Nat.le_of_ble_eq_true rfl) rfl dX4_ride_116 (fun H locs cells slots I => ?_)
                  cases os hf
                  exact r_iret X I dX4_ride_119
                · have hf := im c_46_4 hf
                  by_cases c_46_5 : x2 = 12
                  · have hf := ip c_46_5 hf
                    refine lv_tableIn (off := 74) (tgt := 120) hx hb dX4_ride_46 (by rw [c_46_5]; decide) (by rw [c_46_5]; decide) (by rw [c_46_5]; rfl) (by decide) ?_
                    refine lv_aload_n hx hb dX4_ride_120 rfl (lv_at hl 0 rfl) ?_
                    refine lv_iload_n hx hb dX4_ride_121 rfl (lv_at hl 1 rfl) ?_
                    refine lv_bipush (v := 10) hx hb dX4_ride_122 (by decide) ?_
                    obtain ⟨v_18, ev_18, hf⟩ := ob hf
                    refine tw_V (some (.int v_18)) (rs := [.int v_18]) (rest := []) (As := [.int x1, .int (10 : Int32)]) X I (mX4_of X.2.2.2.2.1 ev_18) lvX4_of hdX4_of ⟨Nat.le_trans (Nat.le_of_ble_eq_true rfl) hR.1, Nat.le_trans (Nat.le_of_ble_eq_true rfl) hR.2⟩ rfl hl.1 rfl (Nat.le_of_ble_eq_true rfl) rfl dX4_ride_124 (fun H locs cells slots I => ?_)
                    cases os hf
                    exact r_iret X I dX4_ride_127
                  · have hf := im c_46_5 hf
                    refine lv_tableOut (tgt := 128) hx hb dX4_ride_46 (by exact sw_out 7 12 (fun k h1 h2 => by rcases (show k = 7 ∨ k = 8 ∨ k = 9 ∨ k = 10 ∨ k = 11 ∨ k = 12 by omega) with rfl | rfl | rfl | rfl | rfl | rfl; exact c_46_0; exact c_46_1; exact c_46_2; exact c_46_3; exact c_46_4; exact c_46_5)) (by decide) ?_
                    refine lv_aload_n hx hb dX4_ride_128 rfl (lv_at hl 0 rfl) ?_
                    refine lv_iload_n hx hb dX4_ride_129 rfl (lv_at hl 1 rfl) ?_
                    refine lv_bipush (v := 11) hx hb dX4_ride_130 (by decide) ?_
                    obtain ⟨v_20, ev_20, hf⟩ := ob hf
                    refine tw_V (some (.int v_20)) (rs := [.int v_20]) (rest := []) (As := [.int x1, .int (11 : Int32)]) X I (mX4_of X.2.2.2.2.1 ev_20) lvX4_of hdX4_of ⟨Nat.le_trans (Nat.le_of_ble_eq_true rfl) hR.1, Nat.le_trans (Nat.le_of_ble_eq_true rfl) hR.2⟩ rfl hl.1 rfl (Nat.le_of_ble_eq_true rfl) rfl dX4_ride_132 (fun H locs cells slots I => ?_)
                    cases os hf
                    exact r_iret X I dX4_ride_135
      · have hf := im c_35 hf
        refine lv_aload_n hx hb dX4_ride_38 rfl (lv_at hl 0 rfl) ?_
        refine lv_iload_n hx hb dX4_ride_39 rfl (lv_at hl 1 rfl) ?_
        refine lv_iload_n hx hb dX4_ride_40 rfl (lv_at hl 2 rfl) ?_
        obtain ⟨v_22, ev_22, hf⟩ := ob hf
        refine tw_V (some (.int v_22)) (rs := [.int v_22]) (rest := []) (As := [.int x1, .int x2]) X I (mX4_of X.2.2.2.2.1 ev_22) lvX4_of hdX4_of ⟨Nat.le_trans (Nat.le_of_ble_eq_true rfl) hR.1, Nat.le_trans (Nat.le_of_ble_eq_true rfl) hR.2⟩ rfl hl.1 rfl (Nat.le_of_ble_eq_true rfl) rfl dX4_ride_41 (fun H locs cells slots I => ?_)
        cases os hf
        exact r_iret X I dX4_ride_44
    · have hf := im c_27 hf
      refine lv_iconst (v := 0) hx hb dX4_ride_30 (by decide) ?_
      cases os hf
      exact r_iret X I dX4_ride_31
theorem mX4_ride {E : EV} {l : Launch} {h : Nat} {S : St} {σ : TS} {x1 : Int32} {x2 : Int32} {res : (Int32 × TS)} (hE : EK E) (hf : fX4_ride σ x1 x2 = some res) : CM E l yX4_ride (ws_ yX4_ride cX4_ride 3 (some .int)) 3 65 [.ref h, .int x1, .int x2] (twS h σ S) (some (.int res.1)) (twS h res.2 S) := by
  refine CM.of hE (by decide) rfl rfl (Nat.le_of_ble_eq_true rfl) ?_
  intro p e s m below meth c X I ls hl
  exact wX4_ride_0 ⟨Nat.le_refl _, Nat.le_refl _⟩ X _ _ _ _ _ _ _ _ I hl hf
/-! offer(II)I -/
theorem wX4_offer_0 {E : EV} {l : Launch} {p : Program} {e : Env} {s : State} {m : MethodId} {args : Array Value} {below : List Frame} {meth : Method} {c : Code} {R : Room} {h : Nat} {S : St} {res : (Int32 × TS)} (hR : 2 ≤ R.frames ∧ 46 ≤ R.locals) (X : MX E p s m args meth c cX4_offer 3 (some .int) RX4 "offer") : ∀ (x1 : Int32) (x2 : Int32) (σ : TS) (H : Heap) (locs : List Loc) (cells slots : Nat) (ls : Array Slot), WI E R s (twS h σ S) H locs cells slots → lv_has ls 3 [(0, .ref h), (1, .int x1), (2, .int x2)] → fX4_offer σ x1 x2 = some res → W p l e R s m args below meth c H locs cells slots (MQ below (Qd E R.cells R.slots (some (.int res.1)) (twS h res.2 S)) args s R.cells R.slots (fr E)) (F0 m 0 ls []) := by
  intro x1 x2 σ H locs cells slots ls I hl hf
  obtain ⟨⟨hx, hb, hml, hown, hts⟩, -⟩ := id X
  unfold fX4_offer at hf
  refine lv_aload_n hx hb dX4_offer_0 rfl (lv_at hl 0 rfl) ?_
  refine lv_iconst (v := 0) hx hb dX4_offer_1 (by decide) ?_
  obtain ⟨σ_1, eσ_1, hf⟩ := ol hf
  refine tw_put X I 0 (ty := .int) (by decide) (by decide) rfl q2687 rfl rfl rfl rfl eσ_1 dX4_offer_2 (fun H locs I => ?_)
  refine lv_aload_n hx hb dX4_offer_5 rfl (lv_at hl 0 rfl) ?_
  refine lv_iload_n hx hb dX4_offer_6 rfl (lv_at hl 1 rfl) ?_
  obtain ⟨v_2, ev_2, hf⟩ := ob hf
  refine tw_V (some (.int v_2.1)) (rs := [.int v_2.1]) (rest := []) (As := [.int x1]) X I (mX4_noRide X.2.2.2.2.1 ev_2) lvX4_noRide hdX4_noRide ⟨Nat.le_trans (Nat.le_of_ble_eq_true rfl) hR.1, Nat.le_trans (Nat.le_of_ble_eq_true rfl) hR.2⟩ rfl hl.1 rfl (Nat.le_of_ble_eq_true rfl) rfl dX4_offer_7 (fun H locs cells slots I => ?_)
  refine lv_if_ne (tgt := 30) hx hb dX4_offer_10 (by decide) (fun c_10 => ?_) (fun c_10 => ?_)
  · have hf := im c_10 hf
    refine lv_iconst (v := 0) hx hb dX4_offer_30 (by decide) ?_
    cases os hf
    exact r_iret X I dX4_offer_31
  · have hf := ip c_10 hf
    refine lv_aload_n hx hb dX4_offer_13 rfl (lv_at hl 0 rfl) ?_
    refine lv_iload_n hx hb dX4_offer_14 rfl (lv_at hl 2 rfl) ?_
    refine lv_i2l hx hb dX4_offer_15 rfl ?_
    refine lv_lconst (v := 0) hx hb dX4_offer_16 (by decide) ?_
    refine lv_ldc2 (v := 4) hx hb hown (hts _ q3073) dX4_offer_17 ?_
    obtain ⟨v_4, ev_4, hf⟩ := ob hf
    refine tw_S (some (.int v_4)) (rs := [.int v_4, .ref h]) (rest := [.ref h]) (As := [.long (x2.toInt64), .long (0 : Int64), .long (4 : Int64)]) X I (mX4_in X.2.2.2.2.1 ev_4) lvX4_in hdX4_in ⟨Nat.le_trans (Nat.le_of_ble_eq_true rfl) hR.1, Nat.le_trans (Nat.le_of_ble_eq_true rfl) hR.2⟩ rfl hl.1 rfl (Nat.le_of_ble_eq_true rfl) rfl dX4_offer_20 (fun H locs cells slots I => ?_)
    refine lv_iconst (v := 1) hx hb dX4_offer_23 (by decide) ?_
    obtain ⟨v_6, ev_6, hf⟩ := ob hf
    refine tw_V (some (.int v_6.1)) (rs := [.int v_6.1]) (rest := []) (As := [.int v_4, .int (1 : Int32)]) X I (mX4_fails X.2.2.2.2.1 ev_6) lvX4_fails hdX4_fails ⟨Nat.le_trans (Nat.le_of_ble_eq_true rfl) hR.1, Nat.le_trans (Nat.le_of_ble_eq_true rfl) hR.2⟩ rfl hl.1 rfl (Nat.le_of_ble_eq_true rfl) rfl dX4_offer_24 (fun H locs cells slots I => ?_)
    refine lv_if_eq (tgt := 32) hx hb dX4_offer_27 (by decide) (fun c_27 => ?_) (fun c_27 => ?_)
    · have hf := ip c_27 hf
      refine lv_aload_n hx hb dX4_offer_32 rfl (lv_at hl 0 rfl) ?_
      refine lv_iload_n hx hb dX4_offer_33 rfl (lv_at hl 1 rfl) ?_
      refine lv_iconst (v := 0) hx hb dX4_offer_34 (by decide) ?_
      obtain ⟨v_8, ev_8, hf⟩ := ob hf
      refine tw_V (some (.int v_8)) (rs := [.int v_8]) (rest := []) (As := [.int x1, .int (0 : Int32)]) X I (mX4_of X.2.2.2.2.1 ev_8) lvX4_of hdX4_of ⟨Nat.le_trans (Nat.le_of_ble_eq_true rfl) hR.1, Nat.le_trans (Nat.le_of_ble_eq_true rfl) hR.2⟩ rfl hl.1 rfl (Nat.le_of_ble_eq_true rfl) rfl dX4_offer_35 (fun H locs cells slots I => ?_)
      refine lv_if_ne (tgt := 53) hx hb dX4_offer_38 (by decide) (fun c_38 => ?_) (fun c_38 => ?_)
      · have hf := im c_38 hf
        refine lv_iconst (v := (-1)) hx hb dX4_offer_53 (by decide) ?_
        cases os hf
        exact r_iret X I dX4_offer_54
      · have hf := ip c_38 hf
        refine lv_aload_n hx hb dX4_offer_41 rfl (lv_at hl 0 rfl) ?_
        refine lv_iload_n hx hb dX4_offer_42 rfl (lv_at hl 1 rfl) ?_
        refine lv_bipush (v := 12) hx hb dX4_offer_43 (by decide) ?_
        refine lv_iload_n hx hb dX4_offer_45 rfl (lv_at hl 2 rfl) ?_
        refine lv_iadd hx hb dX4_offer_46 ?_
        obtain ⟨v_10, ev_10, hf⟩ := ob hf
        refine tw_V (some (.int v_10)) (rs := [.int v_10]) (rest := []) (As := [.int x1, .int ((12 : Int32) + x2)]) X I (mX4_of X.2.2.2.2.1 ev_10) lvX4_of hdX4_of ⟨Nat.le_trans (Nat.le_of_ble_eq_true rfl) hR.1, Nat.le_trans (Nat.le_of_ble_eq_true rfl) hR.2⟩ rfl hl.1 rfl (Nat.le_of_ble_eq_true rfl) rfl dX4_offer_47 (fun H locs cells slots I => ?_)
        refine lv_goto (tgt := 54) hx hb dX4_offer_50 (by decide) ?_
        cases os hf
        exact r_iret X I dX4_offer_54
    · have hf := im c_27 hf
      refine lv_iconst (v := 0) hx hb dX4_offer_30 (by decide) ?_
      cases os hf
      exact r_iret X I dX4_offer_31
theorem mX4_offer {E : EV} {l : Launch} {h : Nat} {S : St} {σ : TS} {x1 : Int32} {x2 : Int32} {res : (Int32 × TS)} (hE : EK E) (hf : fX4_offer σ x1 x2 = some res) : CM E l yX4_offer (ws_ yX4_offer cX4_offer 3 (some .int)) 2 46 [.ref h, .int x1, .int x2] (twS h σ S) (some (.int res.1)) (twS h res.2 S) := by
  refine CM.of hE (by decide) rfl rfl (Nat.le_of_ble_eq_true rfl) ?_
  intro p e s m below meth c X I ls hl
  exact wX4_offer_0 ⟨Nat.le_refl _, Nat.le_refl _⟩ X _ _ _ _ _ _ _ _ I hl hf
/-! sumOfWays(I)I -/
theorem lvX4_sumOfWays : GoodIn lw_all (wsV RX4 304 RX4 yX4_sumOfWays (ws_ yX4_sumOfWays cX4_sumOfWays 6 (some .int))) := lw_V q3082 q3084 qs82 q120 q3085
theorem hdX4_sumOfWays : yX4_sumOfWays.cls = RX4 ∧ yX4_sumOfWays.cls ≠ "java/lang/invoke/MethodHandle" ∧ yX4_sumOfWays.cls ≠ "java/lang/invoke/VarHandle" ∧ (parseMethodDescriptor yX4_sumOfWays.desc).map (fun d => d.parameters.length) = some 1 := by decide +kernel
theorem wX4_sumOfWays_12 {E : EV} {l : Launch} {p : Program} {e : Env} {s : State} {m : MethodId} {args : Array Value} {below : List Frame} {meth : Method} {c : Code} {R : Room} {h : Nat} {S : St} {σ : TS} {res : Int32} (hR : 2 ≤ R.frames ∧ 43 ≤ R.locals) (X : MX E p s m args meth c cX4_sumOfWays 6 (some .int) RX4 "sumOfWays") (N : Nat) : ∀ (n : Nat) (x2 : Int32) (x3 : Int32) (x4 : Int32) (H : Heap) (locs : List Loc) (cells slots : Nat) (ls : Array Slot), WI E R s (twS h σ S) H locs cells slots → lv_has ls 6 [(0, .ref h), (2, .int x2), (3, .int x3), (4, .int x4)] → fX4_sumOfWays_12 N σ n x2 x3 x4 = some res → W p l e R s m args below meth c H locs cells slots (MQ below (Qd E R.cells R.slots (some (.int res)) (twS h σ S)) args s R.cells R.slots (fr E)) (F0 m 12 ls []) := by
  intro n
  induction n with
  | zero => intro x2 x3 x4 H locs cells slots ls I hl hf; exact nomatch (show none = some res from hf)
  | succ n ih =>
    intro x2 x3 x4 H locs cells slots ls I hl hf
    obtain ⟨⟨hx, hb, hml, hown, hts⟩, -⟩ := id X
    rw [fX4_sumOfWays_12.eq_2] at hf
    refine lv_iload hx hb dX4_sumOfWays_12 (lv_at hl 3 rfl) ?_
    refine lv_aload_n hx hb dX4_sumOfWays_14 rfl (lv_at hl 0 rfl) ?_
    refine tw_get X I 39 (v := .int (σ.1 0 39)) (by decide) q2726 rfl dX4_sumOfWays_15 ?_
    refine lv_icmp_ge (tgt := 70) hx hb dX4_sumOfWays_18 (by decide) (fun c_18 => ?_) (fun c_18 => ?_)
    · have hf := ip c_18 hf
      refine lv_iload_n hx hb dX4_sumOfWays_70 rfl (lv_at hl 1 rfl) ?_
      cases os hf
      exact r_iret X I dX4_sumOfWays_71
    · have hf := im c_18 hf
      refine lv_aload_n hx hb dX4_sumOfWays_21 rfl (lv_at hl 0 rfl) ?_
      refine lv_iload_n hx hb dX4_sumOfWays_22 rfl (lv_at hl 2 rfl) ?_
      refine lv_aload_n hx hb dX4_sumOfWays_23 rfl (lv_at hl 0 rfl) ?_
      refine lv_aload_n hx hb dX4_sumOfWays_24 rfl (lv_at hl 0 rfl) ?_
      refine tw_get X I 32 (v := .ref (h + 13)) (by decide) q2719 rfl dX4_sumOfWays_25 ?_
      refine lv_iload hx hb dX4_sumOfWays_28 (lv_at hl 3 rfl) ?_
      obtain ⟨v_1, ev_1, hf⟩ := ob hf
      refine tw_ald X I 13 (by decide) (by decide) (by decide) ev_1 dX4_sumOfWays_30 ?_
      obtain ⟨v_2, ev_2, hf⟩ := ob hf
      refine tw_V (some (.int v_2)) (rs := [.int v_2, .int x3, .ref h]) (rest := [.int x3, .ref h]) (As := [.int v_1]) X I (mX4_zoneOf X.2.2.2.2.1 ev_2) lvX4_zoneOf hdX4_zoneOf ⟨Nat.le_trans (Nat.le_of_ble_eq_true rfl) hR.1, Nat.le_trans (Nat.le_of_ble_eq_true rfl) hR.2⟩ rfl hl.1 rfl (Nat.le_of_ble_eq_true rfl) rfl dX4_sumOfWays_31 (fun H locs cells slots I => ?_)
      obtain ⟨v_4, ev_4, hf⟩ := ob hf
      refine tw_V (some (.int v_4)) (rs := [.int v_4]) (rest := []) (As := [.int x3, .int v_2]) X I (mX4_minutesOf X.2.2.2.2.1 ev_4) lvX4_minutesOf hdX4_minutesOf ⟨Nat.le_trans (Nat.le_of_ble_eq_true rfl) hR.1, Nat.le_trans (Nat.le_of_ble_eq_true rfl) hR.2⟩ rfl hl.1 rfl (Nat.le_of_ble_eq_true rfl) rfl dX4_sumOfWays_34 (fun H locs cells slots I => ?_)
      refine lv_istore (lv' := [(5, .int v_4), (0, .ref h), (2, .int x2), (3, .int x3), (4, .int x4)]) hx hb dX4_sumOfWays_37 hl (by decide) rfl (fun ls hl => ?_)
      refine lv_iload hx hb dX4_sumOfWays_39 (lv_at hl 0 rfl) ?_
      refine lv_iconst (v := (-1)) hx hb dX4_sumOfWays_41 (by decide) ?_
      refine lv_icmp_ne (tgt := 47) hx hb dX4_sumOfWays_42 (by decide) (fun c_42 => ?_) (fun c_42 => ?_)
      · have hf := im c_42 hf
        refine lv_iload_n hx hb dX4_sumOfWays_47 rfl (lv_at hl 2 rfl) ?_
        refine lv_iload hx hb dX4_sumOfWays_48 (lv_at hl 0 rfl) ?_
        refine lv_iadd hx hb dX4_sumOfWays_50 ?_
        obtain ⟨x2_6, ex2_6, hf⟩ := ol hf
        refine nm_i ex2_6 ?_
        refine lv_istore_n (lv' := [(2, .int x2_6), (5, .int v_4), (0, .ref h), (3, .int x3), (4, .int x4)]) hx hb dX4_sumOfWays_51 rfl hl (by decide) rfl (fun ls hl => ?_)
        refine lv_aload_n hx hb dX4_sumOfWays_52 rfl (lv_at hl 2 rfl) ?_
        refine lv_aload_n hx hb dX4_sumOfWays_53 rfl (lv_at hl 2 rfl) ?_
        refine tw_get X I 32 (v := .ref (h + 13)) (by decide) q2719 rfl dX4_sumOfWays_54 ?_
        refine lv_iload hx hb dX4_sumOfWays_57 (lv_at hl 4 rfl) ?_
        obtain ⟨v_7, ev_7, hf⟩ := ob hf
        refine tw_ald X I 13 (by decide) (by decide) (by decide) ev_7 dX4_sumOfWays_59 ?_
        obtain ⟨v_8, ev_8, hf⟩ := ob hf
        refine tw_V (some (.int v_8)) (rs := [.int v_8]) (rest := []) (As := [.int v_7]) X I (mX4_zoneOf X.2.2.2.2.1 ev_8) lvX4_zoneOf hdX4_zoneOf ⟨Nat.le_trans (Nat.le_of_ble_eq_true rfl) hR.1, Nat.le_trans (Nat.le_of_ble_eq_true rfl) hR.2⟩ rfl hl.1 rfl (Nat.le_of_ble_eq_true rfl) rfl dX4_sumOfWays_60 (fun H locs cells slots I => ?_)
        refine lv_istore_n (lv' := [(3, .int v_8), (2, .int x2_6), (5, .int v_4), (0, .ref h), (4, .int x4)]) hx hb dX4_sumOfWays_63 rfl hl (by decide) rfl (fun ls hl => ?_)
        obtain ⟨x4_10, ex4_10, hf⟩ := ol hf
        refine lv_iinc (v := x4_10) (lv' := [(4, .int x4_10), (3, .int v_8), (2, .int x2_6), (5, .int v_4), (0, .ref h)]) hx hb dX4_sumOfWays_64 hl (k := 4) rfl ex4_10 (by decide) rfl (fun ls hl => ?_)
        refine lv_goto (tgt := 12) hx hb dX4_sumOfWays_67 (by decide) ?_
        exact ih _ _ _ _ _ _ _ _ I (lv_sub hl [4, 2, 1, 0] rfl) hf
      · have hf := ip c_42 hf
        refine lv_iconst (v := (-1)) hx hb dX4_sumOfWays_45 (by decide) ?_
        cases os hf
        exact r_iret X I dX4_sumOfWays_46
theorem wX4_sumOfWays_0 {E : EV} {l : Launch} {p : Program} {e : Env} {s : State} {m : MethodId} {args : Array Value} {below : List Frame} {meth : Method} {c : Code} {R : Room} {h : Nat} {S : St} {σ : TS} {res : Int32} (hR : 2 ≤ R.frames ∧ 43 ≤ R.locals) (X : MX E p s m args meth c cX4_sumOfWays 6 (some .int) RX4 "sumOfWays") (N : Nat) : ∀ (x1 : Int32) (H : Heap) (locs : List Loc) (cells slots : Nat) (ls : Array Slot), WI E R s (twS h σ S) H locs cells slots → lv_has ls 6 [(0, .ref h), (1, .int x1)] → fX4_sumOfWays N σ x1 = some res → W p l e R s m args below meth c H locs cells slots (MQ below (Qd E R.cells R.slots (some (.int res)) (twS h σ S)) args s R.cells R.slots (fr E)) (F0 m 0 ls []) := by
  intro x1 H locs cells slots ls I hl hf
  obtain ⟨⟨hx, hb, hml, hown, hts⟩, -⟩ := id X
  unfold fX4_sumOfWays at hf
  refine lv_iconst (v := 0) hx hb dX4_sumOfWays_0 (by decide) ?_
  refine lv_istore_n (lv' := [(2, .int (0 : Int32)), (0, .ref h), (1, .int x1)]) hx hb dX4_sumOfWays_1 rfl hl (by decide) rfl (fun ls hl => ?_)
  refine lv_aload_n hx hb dX4_sumOfWays_2 rfl (lv_at hl 1 rfl) ?_
  refine lv_iload_n hx hb dX4_sumOfWays_3 rfl (lv_at hl 2 rfl) ?_
  refine lv_iconst (v := 0) hx hb dX4_sumOfWays_4 (by decide) ?_
  obtain ⟨v_11, ev_11, hf⟩ := ob hf
  refine tw_V (some (.int v_11)) (rs := [.int v_11]) (rest := []) (As := [.int x1, .int (0 : Int32)]) X I (mX4_in2 X.2.2.2.2.1 ev_11) lvX4_in2 hdX4_in2 ⟨Nat.le_trans (Nat.le_of_ble_eq_true rfl) hR.1, Nat.le_trans (Nat.le_of_ble_eq_true rfl) hR.2⟩ rfl hl.1 rfl (Nat.le_of_ble_eq_true rfl) rfl dX4_sumOfWays_5 (fun H locs cells slots I => ?_)
  refine lv_istore_n (lv' := [(3, .int v_11), (2, .int (0 : Int32)), (0, .ref h), (1, .int x1)]) hx hb dX4_sumOfWays_8 rfl hl (by decide) rfl (fun ls hl => ?_)
  refine lv_iconst (v := 0) hx hb dX4_sumOfWays_9 (by decide) ?_
  refine lv_istore (lv' := [(4, .int (0 : Int32)), (3, .int v_11), (2, .int (0 : Int32)), (0, .ref h), (1, .int x1)]) hx hb dX4_sumOfWays_10 hl (by decide) rfl (fun ls hl => ?_)
  exact wX4_sumOfWays_12 hR X N N _ _ _ _ _ _ _ _ I (lv_sub hl [3, 2, 1, 0] rfl) hf
theorem mX4_sumOfWays {E : EV} {l : Launch} {h : Nat} {S : St} {N : Nat} {σ : TS} {x1 : Int32} {res : Int32} (hE : EK E) (hf : fX4_sumOfWays N σ x1 = some res) : CM E l yX4_sumOfWays (ws_ yX4_sumOfWays cX4_sumOfWays 6 (some .int)) 2 43 [.ref h, .int x1] (twS h σ S) (some (.int res)) (twS h σ S) := by
  refine CM.of hE (by decide) rfl rfl (Nat.le_of_ble_eq_true rfl) ?_
  intro p e s m below meth c X I ls hl
  exact wX4_sumOfWays_0 ⟨Nat.le_refl _, Nat.le_refl _⟩ X N _ _ _ _ _ _ I hl hf
/-! insertsAt(IIII)V -/
theorem lvX4_insertsAt : GoodIn lw_all (wsV RX4 307 RX4 yX4_insertsAt (ws_ yX4_insertsAt cX4_insertsAt 8 none)) := lw_V q3086 q3088 qs83 q120 q3089
theorem hdX4_insertsAt : yX4_insertsAt.cls = RX4 ∧ yX4_insertsAt.cls ≠ "java/lang/invoke/MethodHandle" ∧ yX4_insertsAt.cls ≠ "java/lang/invoke/VarHandle" ∧ (parseMethodDescriptor yX4_insertsAt.desc).map (fun d => d.parameters.length) = some 4 := by decide +kernel
theorem wX4_insertsAt_93 {E : EV} {l : Launch} {p : Program} {e : Env} {s : State} {m : MethodId} {args : Array Value} {below : List Frame} {meth : Method} {c : Code} {R : Room} {h : Nat} {S : St} {res : TS} (hR : 1 ≤ R.frames ∧ 22 ≤ R.locals) (X : MX E p s m args meth c cX4_insertsAt 8 none RX4 "insertsAt") (N : Nat) (r23 : Int32 → Int32 → Int32 → Int32 → Int32 → Int32 → TS → Option TS) (hr23 : ∀ (x1 : Int32) (x2 : Int32) (x3 : Int32) (x4 : Int32) (x6 : Int32) (x7 : Int32) (σ : TS) (H : Heap) (locs : List Loc) (cells slots : Nat) (ls : Array Slot), WI E R s (twS h σ S) H locs cells slots → lv_has ls 8 [(0, .ref h), (1, .int x1), (2, .int x2), (3, .int x3), (4, .int x4), (6, .int x6), (7, .int x7)] → r23 x1 x2 x3 x4 x6 x7 σ = some res → W p l e R s m args below meth c H locs cells slots (MQ below (Qd E R.cells R.slots none (twS h res S)) args s R.cells R.slots (fr E)) (F0 m 23 ls [])) : ∀ (x1 : Int32) (x2 : Int32) (x3 : Int32) (x4 : Int32) (x6 : Int32) (x7 : Int32) (σ : TS) (H : Heap) (locs : List Loc) (cells slots : Nat) (ls : Array Slot), WI E R s (twS h σ S) H locs cells slots → lv_has ls 8 [(0, .ref h), (1, .int x1), (2, .int x2), (3, .int x3), (4, .int x4), (6, .int x6), (7, .int x7)] → fX4_insertsAt_93 N r23 x1 x2 x3 x4 x6 x7 σ = some res → W p l e R s m args below meth c H locs cells slots (MQ below (Qd E R.cells R.slots none (twS h res S)) args s R.cells R.slots (fr E)) (F0 m 93 ls []) := by
  intro x1 x2 x3 x4 x6 x7 σ H locs cells slots ls I hl hf
  obtain ⟨⟨hx, hb, hml, hown, hts⟩, -⟩ := id X
  unfold fX4_insertsAt_93 at hf
  obtain ⟨x7_1, ex7_1, hf⟩ := ol hf
  refine lv_iinc (v := x7_1) (lv' := [(7, .int x7_1), (0, .ref h), (1, .int x1), (2, .int x2), (3, .int x3), (4, .int x4), (6, .int x6)]) hx hb dX4_insertsAt_93 hl (k := 6) rfl ex7_1 (by decide) rfl (fun ls hl => ?_)
  refine lv_goto (tgt := 23) hx hb dX4_insertsAt_96 (by decide) ?_
  exact hr23 _ _ _ _ _ _ _ _ _ _ _ _ I (lv_sub hl [1, 2, 3, 4, 5, 6, 0] rfl) hf
theorem wX4_insertsAt_23 {E : EV} {l : Launch} {p : Program} {e : Env} {s : State} {m : MethodId} {args : Array Value} {below : List Frame} {meth : Method} {c : Code} {R : Room} {h : Nat} {S : St} {res : TS} (hR : 1 ≤ R.frames ∧ 22 ≤ R.locals) (X : MX E p s m args meth c cX4_insertsAt 8 none RX4 "insertsAt") (N : Nat) : ∀ (n : Nat) (x1 : Int32) (x2 : Int32) (x3 : Int32) (x4 : Int32) (x6 : Int32) (x7 : Int32) (σ : TS) (H : Heap) (locs : List Loc) (cells slots : Nat) (ls : Array Slot), WI E R s (twS h σ S) H locs cells slots → lv_has ls 8 [(0, .ref h), (1, .int x1), (2, .int x2), (3, .int x3), (4, .int x4), (6, .int x6), (7, .int x7)] → fX4_insertsAt_23 N n x1 x2 x3 x4 x6 x7 σ = some res → W p l e R s m args below meth c H locs cells slots (MQ below (Qd E R.cells R.slots none (twS h res S)) args s R.cells R.slots (fr E)) (F0 m 23 ls []) := by
  intro n
  induction n with
  | zero => intro x1 x2 x3 x4 x6 x7 σ H locs cells slots ls I hl hf; exact nomatch (show none = some res from hf)
  | succ n ih =>
    intro x1 x2 x3 x4 x6 x7 σ H locs cells slots ls I hl hf
    obtain ⟨⟨hx, hb, hml, hown, hts⟩, -⟩ := id X
    rw [fX4_insertsAt_23.eq_2] at hf
    refine lv_iload hx hb dX4_insertsAt_23 (lv_at hl 6 rfl) ?_
    refine lv_aload_n hx hb dX4_insertsAt_25 rfl (lv_at hl 0 rfl) ?_
    refine tw_get X I 39 (v := .int (σ.1 0 39)) (by decide) q2726 rfl dX4_insertsAt_26 ?_
    refine lv_icmp_ge (tgt := 99) hx hb dX4_insertsAt_29 (by decide) (fun c_29 => ?_) (fun c_29 => ?_)
    · have hf := ip c_29 hf
      cases os hf
      exact r_vret X I dX4_insertsAt_99
    · have hf := im c_29 hf
      refine lv_iload hx hb dX4_insertsAt_32 (lv_at hl 6 rfl) ?_
      refine lv_iload_n hx hb dX4_insertsAt_34 rfl (lv_at hl 3 rfl) ?_
      refine lv_icmp_ne (tgt := 53) hx hb dX4_insertsAt_35 (by decide) (fun c_35 => ?_) (fun c_35 => ?_)
      · have hf := im c_35 hf
        refine lv_iload hx hb dX4_insertsAt_53 (lv_at hl 6 rfl) ?_
        refine lv_iload hx hb dX4_insertsAt_55 (lv_at hl 4 rfl) ?_
        refine lv_icmp_ne (tgt := 73) hx hb dX4_insertsAt_57 (by decide) (fun c_57 => ?_) (fun c_57 => ?_)
        · have hf := im c_57 hf
          refine lv_aload_n hx hb dX4_insertsAt_73 rfl (lv_at hl 0 rfl) ?_
          refine tw_get X I 32 (v := .ref (h + 13)) (by decide) q2719 rfl dX4_insertsAt_74 ?_
          refine lv_iload hx hb dX4_insertsAt_77 (lv_at hl 6 rfl) ?_
          refine lv_aload_n hx hb dX4_insertsAt_79 rfl (lv_at hl 0 rfl) ?_
          refine lv_iload_n hx hb dX4_insertsAt_80 rfl (lv_at hl 1 rfl) ?_
          refine lv_bipush (v := 12) hx hb dX4_insertsAt_81 (by decide) ?_
          refine lv_iload hx hb dX4_insertsAt_83 (lv_at hl 5 rfl) ?_
          refine lv_iadd hx hb dX4_insertsAt_85 ?_
          obtain ⟨v_2, ev_2, hf⟩ := ob hf
          refine tw_V (some (.int v_2)) (rs := [.int v_2, .int x7, .ref (h + 13)]) (rest := [.int x7, .ref (h + 13)]) (As := [.int x1, .int ((12 : Int32) + x6)]) X I (mX4_in2 X.2.2.2.2.1 ev_2) lvX4_in2 hdX4_in2 ⟨Nat.le_trans (Nat.le_of_ble_eq_true rfl) hR.1, Nat.le_trans (Nat.le_of_ble_eq_true rfl) hR.2⟩ rfl hl.1 rfl (Nat.le_of_ble_eq_true rfl) rfl dX4_insertsAt_86 (fun H locs cells slots I => ?_)
          obtain ⟨σ_4, eσ_4, hf⟩ := ob hf
          refine tw_ast X I 13 (by decide) (by decide) (by decide) eσ_4 dX4_insertsAt_89 (fun H locs I => ?_)
          obtain ⟨x6_5, ex6_5, hf⟩ := ol hf
          refine lv_iinc (v := x6_5) (lv' := [(6, .int x6_5), (0, .ref h), (1, .int x1), (2, .int x2), (3, .int x3), (4, .int x4), (7, .int x7)]) hx hb dX4_insertsAt_90 hl (k := 5) rfl ex6_5 (by decide) rfl (fun ls hl => ?_)
          exact wX4_insertsAt_93 hR X N (fX4_insertsAt_23 N n) ih _ _ _ _ _ _ _ _ _ _ _ _ I (lv_sub hl [1, 2, 3, 4, 5, 0, 6] rfl) hf
        · have hf := ip c_57 hf
          refine lv_aload_n hx hb dX4_insertsAt_60 rfl (lv_at hl 0 rfl) ?_
          refine tw_get X I 32 (v := .ref (h + 13)) (by decide) q2719 rfl dX4_insertsAt_61 ?_
          refine lv_iload hx hb dX4_insertsAt_64 (lv_at hl 6 rfl) ?_
          refine lv_iconst (v := 2) hx hb dX4_insertsAt_66 (by decide) ?_
          refine lv_iload_n hx hb dX4_insertsAt_67 rfl (lv_at hl 2 rfl) ?_
          refine lv_imul hx hb dX4_insertsAt_68 ?_
          obtain ⟨σ_6, eσ_6, hf⟩ := ob hf
          refine tw_ast X I 13 (by decide) (by decide) (by decide) eσ_6 dX4_insertsAt_69 (fun H locs I => ?_)
          refine lv_goto (tgt := 93) hx hb dX4_insertsAt_70 (by decide) ?_
          exact wX4_insertsAt_93 hR X N (fX4_insertsAt_23 N n) ih _ _ _ _ _ _ _ _ _ _ _ _ I (lv_sub hl [0, 1, 2, 3, 4, 5, 6] rfl) hf
      · have hf := ip c_35 hf
        refine lv_aload_n hx hb dX4_insertsAt_38 rfl (lv_at hl 0 rfl) ?_
        refine tw_get X I 32 (v := .ref (h + 13)) (by decide) q2719 rfl dX4_insertsAt_39 ?_
        refine lv_iload hx hb dX4_insertsAt_42 (lv_at hl 6 rfl) ?_
        refine lv_iconst (v := 2) hx hb dX4_insertsAt_44 (by decide) ?_
        refine lv_iload_n hx hb dX4_insertsAt_45 rfl (lv_at hl 2 rfl) ?_
        refine lv_imul hx hb dX4_insertsAt_46 ?_
        refine lv_iconst (v := 1) hx hb dX4_insertsAt_47 (by decide) ?_
        refine lv_iadd hx hb dX4_insertsAt_48 ?_
        obtain ⟨σ_7, eσ_7, hf⟩ := ob hf
        refine tw_ast X I 13 (by decide) (by decide) (by decide) eσ_7 dX4_insertsAt_49 (fun H locs I => ?_)
        refine lv_goto (tgt := 93) hx hb dX4_insertsAt_50 (by decide) ?_
        exact wX4_insertsAt_93 hR X N (fX4_insertsAt_23 N n) ih _ _ _ _ _ _ _ _ _ _ _ _ I (lv_sub hl [0, 1, 2, 3, 4, 5, 6] rfl) hf
theorem wX4_insertsAt_0 {E : EV} {l : Launch} {p : Program} {e : Env} {s : State} {m : MethodId} {args : Array Value} {below : List Frame} {meth : Method} {c : Code} {R : Room} {h : Nat} {S : St} {res : TS} (hR : 1 ≤ R.frames ∧ 22 ≤ R.locals) (X : MX E p s m args meth c cX4_insertsAt 8 none RX4 "insertsAt") (N : Nat) : ∀ (x1 : Int32) (x2 : Int32) (x3 : Int32) (x4 : Int32) (σ : TS) (H : Heap) (locs : List Loc) (cells slots : Nat) (ls : Array Slot), WI E R s (twS h σ S) H locs cells slots → lv_has ls 8 [(0, .ref h), (1, .int x1), (2, .int x2), (3, .int x3), (4, .int x4)] → fX4_insertsAt N σ x1 x2 x3 x4 = some res → W p l e R s m args below meth c H locs cells slots (MQ below (Qd E R.cells R.slots none (twS h res S)) args s R.cells R.slots (fr E)) (F0 m 0 ls []) := by
  intro x1 x2 x3 x4 σ H locs cells slots ls I hl hf
  obtain ⟨⟨hx, hb, hml, hown, hts⟩, -⟩ := id X
  unfold fX4_insertsAt at hf
  refine lv_aload_n hx hb dX4_insertsAt_0 rfl (lv_at hl 0 rfl) ?_
  refine lv_iload_n hx hb dX4_insertsAt_1 rfl (lv_at hl 1 rfl) ?_
  refine lv_bipush (v := 11) hx hb dX4_insertsAt_2 (by decide) ?_
  obtain ⟨v_8, ev_8, hf⟩ := ob hf
  refine tw_V (some (.int v_8)) (rs := [.int v_8]) (rest := []) (As := [.int x1, .int (11 : Int32)]) X I (mX4_in2 X.2.2.2.2.1 ev_8) lvX4_in2 hdX4_in2 ⟨Nat.le_trans (Nat.le_of_ble_eq_true rfl) hR.1, Nat.le_trans (Nat.le_of_ble_eq_true rfl) hR.2⟩ rfl hl.1 rfl (Nat.le_of_ble_eq_true rfl) rfl dX4_insertsAt_4 (fun H locs cells slots I => ?_)
  refine lv_istore (lv' := [(5, .int v_8), (0, .ref h), (1, .int x1), (2, .int x2), (3, .int x3), (4, .int x4)]) hx hb dX4_insertsAt_7 hl (by decide) rfl (fun ls hl => ?_)
  refine lv_iconst (v := 0) hx hb dX4_insertsAt_9 (by decide) ?_
  refine lv_istore (lv' := [(6, .int (0 : Int32)), (5, .int v_8), (0, .ref h), (1, .int x1), (2, .int x2), (3, .int x3), (4, .int x4)]) hx hb dX4_insertsAt_10 hl (by decide) rfl (fun ls hl => ?_)
  refine lv_aload_n hx hb dX4_insertsAt_12 rfl (lv_at hl 2 rfl) ?_
  refine lv_iload hx hb dX4_insertsAt_13 (lv_at hl 1 rfl) ?_
  refine lv_iconst (v := 2) hx hb dX4_insertsAt_15 (by decide) ?_
  refine lv_iadd hx hb dX4_insertsAt_16 ?_
  obtain ⟨σ_10, eσ_10, hf⟩ := ol hf
  refine tw_put X I 39 (ty := .int) (by decide) (by decide) rfl q2726 rfl rfl rfl rfl eσ_10 dX4_insertsAt_17 (fun H locs I => ?_)
  refine lv_iconst (v := 0) hx hb dX4_insertsAt_20 (by decide) ?_
  refine lv_istore (lv' := [(7, .int (0 : Int32)), (6, .int (0 : Int32)), (5, .int v_8), (0, .ref h), (1, .int x1), (2, .int x2), (3, .int x3), (4, .int x4)]) hx hb dX4_insertsAt_21 hl (by decide) rfl (fun ls hl => ?_)
  exact wX4_insertsAt_23 hR X N N _ _ _ _ _ _ _ _ _ _ _ _ I (lv_sub hl [3, 4, 5, 6, 7, 1, 0] rfl) hf
theorem mX4_insertsAt {E : EV} {l : Launch} {h : Nat} {S : St} {N : Nat} {σ : TS} {x1 : Int32} {x2 : Int32} {x3 : Int32} {x4 : Int32} {res : TS} (hE : EK E) (hf : fX4_insertsAt N σ x1 x2 x3 x4 = some res) : CM E l yX4_insertsAt (ws_ yX4_insertsAt cX4_insertsAt 8 none) 1 22 [.ref h, .int x1, .int x2, .int x3, .int x4] (twS h σ S) none (twS h res S) := by
  refine CM.of hE (by decide) rfl rfl (Nat.le_of_ble_eq_true rfl) ?_
  intro p e s m below meth c X I ls hl
  exact wX4_insertsAt_0 ⟨Nat.le_refl _, Nat.le_refl _⟩ X N _ _ _ _ _ _ _ _ _ _ I hl hf
/-! findsBest(II)Z -/
theorem lvX4_findsBest : GoodIn lw_all (wsV RX4 387 RX4 yX4_findsBest (ws_ yX4_findsBest cX4_findsBest 8 (some .boolean))) := lw_V q3078 q3080 qs81 q120 q3081
theorem hdX4_findsBest : yX4_findsBest.cls = RX4 ∧ yX4_findsBest.cls ≠ "java/lang/invoke/MethodHandle" ∧ yX4_findsBest.cls ≠ "java/lang/invoke/VarHandle" ∧ (parseMethodDescriptor yX4_findsBest.desc).map (fun d => d.parameters.length) = some 2 := by decide +kernel
theorem wX4_findsBest_186 {E : EV} {l : Launch} {p : Program} {e : Env} {s : State} {m : MethodId} {args : Array Value} {below : List Frame} {meth : Method} {c : Code} {R : Room} {h : Nat} {S : St} {res : (Int32 × TS)} (hR : 4 ≤ R.frames ∧ 98 ≤ R.locals) (X : MX E p s m args meth c cX4_findsBest 8 (some .boolean) RX4 "findsBest") (N : Nat) (r52 : Int32 → Int32 → Int32 → Int32 → Int32 → TS → Option (Int32 × TS)) (hr52 : ∀ (x1 : Int32) (x2 : Int32) (x3 : Int32) (x4 : Int32) (x5 : Int32) (σ : TS) (H : Heap) (locs : List Loc) (cells slots : Nat) (ls : Array Slot), WI E R s (twS h σ S) H locs cells slots → lv_has ls 8 [(0, .ref h), (1, .int x1), (2, .int x2), (3, .int x3), (4, .int x4), (5, .int x5)] → r52 x1 x2 x3 x4 x5 σ = some res → W p l e R s m args below meth c H locs cells slots (MQ below (Qd E R.cells R.slots (some (.int res.1)) (twS h res.2 S)) args s R.cells R.slots (fr E)) (F0 m 52 ls [])) (r64 : Int32 → Int32 → Int32 → Int32 → Int32 → Int32 → TS → Option (Int32 × TS)) (hr64 : ∀ (x1 : Int32) (x2 : Int32) (x3 : Int32) (x4 : Int32) (x5 : Int32) (x6 : Int32) (σ : TS) (H : Heap) (locs : List Loc) (cells slots : Nat) (ls : Array Slot), WI E R s (twS h σ S) H locs cells slots → lv_has ls 8 [(0, .ref h), (1, .int x1), (2, .int x2), (3, .int x3), (4, .int x4), (5, .int x5), (6, .int x6)] → r64 x1 x2 x3 x4 x5 x6 σ = some res → W p l e R s m args below meth c H locs cells slots (MQ below (Qd E R.cells R.slots (some (.int res.1)) (twS h res.2 S)) args s R.cells R.slots (fr E)) (F0 m 64 ls [])) : ∀ (x1 : Int32) (x2 : Int32) (x3 : Int32) (x4 : Int32) (x5 : Int32) (x6 : Int32) (σ : TS) (H : Heap) (locs : List Loc) (cells slots : Nat) (ls : Array Slot), WI E R s (twS h σ S) H locs cells slots → lv_has ls 8 [(0, .ref h), (1, .int x1), (2, .int x2), (3, .int x3), (4, .int x4), (5, .int x5), (6, .int x6)] → fX4_findsBest_186 N r52 r64 x1 x2 x3 x4 x5 x6 σ = some res → W p l e R s m args below meth c H locs cells slots (MQ below (Qd E R.cells R.slots (some (.int res.1)) (twS h res.2 S)) args s R.cells R.slots (fr E)) (F0 m 186 ls []) := by
  intro x1 x2 x3 x4 x5 x6 σ H locs cells slots ls I hl hf
  obtain ⟨⟨hx, hb, hml, hown, hts⟩, -⟩ := id X
  unfold fX4_findsBest_186 at hf
  obtain ⟨x6_1, ex6_1, hf⟩ := ol hf
  refine lv_iinc (v := x6_1) (lv' := [(6, .int x6_1), (0, .ref h), (1, .int x1), (2, .int x2), (3, .int x3), (4, .int x4), (5, .int x5)]) hx hb dX4_findsBest_186 hl (k := 6) rfl ex6_1 (by decide) rfl (fun ls hl => ?_)
  refine lv_goto (tgt := 64) hx hb dX4_findsBest_189 (by decide) ?_
  exact hr64 _ _ _ _ _ _ _ _ _ _ _ _ I (lv_sub hl [1, 2, 3, 4, 5, 6, 0] rfl) hf
theorem wX4_findsBest_146 {E : EV} {l : Launch} {p : Program} {e : Env} {s : State} {m : MethodId} {args : Array Value} {below : List Frame} {meth : Method} {c : Code} {R : Room} {h : Nat} {S : St} {res : (Int32 × TS)} (hR : 4 ≤ R.frames ∧ 98 ≤ R.locals) (X : MX E p s m args meth c cX4_findsBest 8 (some .boolean) RX4 "findsBest") (N : Nat) (r52 : Int32 → Int32 → Int32 → Int32 → Int32 → TS → Option (Int32 × TS)) (hr52 : ∀ (x1 : Int32) (x2 : Int32) (x3 : Int32) (x4 : Int32) (x5 : Int32) (σ : TS) (H : Heap) (locs : List Loc) (cells slots : Nat) (ls : Array Slot), WI E R s (twS h σ S) H locs cells slots → lv_has ls 8 [(0, .ref h), (1, .int x1), (2, .int x2), (3, .int x3), (4, .int x4), (5, .int x5)] → r52 x1 x2 x3 x4 x5 σ = some res → W p l e R s m args below meth c H locs cells slots (MQ below (Qd E R.cells R.slots (some (.int res.1)) (twS h res.2 S)) args s R.cells R.slots (fr E)) (F0 m 52 ls [])) (r64 : Int32 → Int32 → Int32 → Int32 → Int32 → Int32 → TS → Option (Int32 × TS)) (hr64 : ∀ (x1 : Int32) (x2 : Int32) (x3 : Int32) (x4 : Int32) (x5 : Int32) (x6 : Int32) (σ : TS) (H : Heap) (locs : List Loc) (cells slots : Nat) (ls : Array Slot), WI E R s (twS h σ S) H locs cells slots → lv_has ls 8 [(0, .ref h), (1, .int x1), (2, .int x2), (3, .int x3), (4, .int x4), (5, .int x5), (6, .int x6)] → r64 x1 x2 x3 x4 x5 x6 σ = some res → W p l e R s m args below meth c H locs cells slots (MQ below (Qd E R.cells R.slots (some (.int res.1)) (twS h res.2 S)) args s R.cells R.slots (fr E)) (F0 m 64 ls [])) : ∀ (x1 : Int32) (x2 : Int32) (x3 : Int32) (x4 : Int32) (x5 : Int32) (x6 : Int32) (x7 : Int32) (σ : TS) (H : Heap) (locs : List Loc) (cells slots : Nat) (ls : Array Slot), WI E R s (twS h σ S) H locs cells slots → lv_has ls 8 [(0, .ref h), (1, .int x1), (2, .int x2), (3, .int x3), (4, .int x4), (5, .int x5), (6, .int x6), (7, .int x7)] → fX4_findsBest_146 N r52 r64 x1 x2 x3 x4 x5 x6 x7 σ = some res → W p l e R s m args below meth c H locs cells slots (MQ below (Qd E R.cells R.slots (some (.int res.1)) (twS h res.2 S)) args s R.cells R.slots (fr E)) (F0 m 146 ls []) := by
  intro x1 x2 x3 x4 x5 x6 x7 σ H locs cells slots ls I hl hf
  obtain ⟨⟨hx, hb, hml, hown, hts⟩, -⟩ := id X
  unfold fX4_findsBest_146 at hf
  refine lv_aload_n hx hb dX4_findsBest_146 rfl (lv_at hl 0 rfl) ?_
  refine lv_iload hx hb dX4_findsBest_147 (lv_at hl 7 rfl) ?_
  obtain ⟨σ_2, eσ_2, hf⟩ := ol hf
  refine tw_put X I 40 (ty := .int) (by decide) (by decide) rfl q2727 rfl rfl rfl rfl eσ_2 dX4_findsBest_149 (fun H locs I => ?_)
  refine lv_aload_n hx hb dX4_findsBest_152 rfl (lv_at hl 0 rfl) ?_
  refine lv_aload_n hx hb dX4_findsBest_153 rfl (lv_at hl 0 rfl) ?_
  refine tw_get X I 34 (v := .ref (h + 15)) (by decide) q2721 rfl dX4_findsBest_154 ?_
  refine lv_iload hx hb dX4_findsBest_157 (lv_at hl 5 rfl) ?_
  obtain ⟨v_3, ev_3, hf⟩ := ob hf
  refine tw_ald X I 15 (by decide) (by decide) (by decide) ev_3 dX4_findsBest_159 ?_
  obtain ⟨σ_4, eσ_4, hf⟩ := ol hf
  refine tw_put X I 41 (ty := .int) (by decide) (by decide) rfl q2728 rfl rfl rfl rfl eσ_4 dX4_findsBest_160 (fun H locs I => ?_)
  refine lv_aload_n hx hb dX4_findsBest_163 rfl (lv_at hl 0 rfl) ?_
  refine lv_aload_n hx hb dX4_findsBest_164 rfl (lv_at hl 0 rfl) ?_
  refine tw_get X I 34 (v := .ref (h + 15)) (by decide) q2721 rfl dX4_findsBest_165 ?_
  refine lv_iload hx hb dX4_findsBest_168 (lv_at hl 6 rfl) ?_
  obtain ⟨v_5, ev_5, hf⟩ := ob hf
  refine tw_ald X I 15 (by decide) (by decide) (by decide) ev_5 dX4_findsBest_170 ?_
  obtain ⟨σ_6, eσ_6, hf⟩ := ol hf
  refine tw_put X I 42 (ty := .int) (by decide) (by decide) rfl q2729 rfl rfl rfl rfl eσ_6 dX4_findsBest_171 (fun H locs I => ?_)
  refine lv_aload_n hx hb dX4_findsBest_174 rfl (lv_at hl 0 rfl) ?_
  refine lv_iload hx hb dX4_findsBest_175 (lv_at hl 5 rfl) ?_
  obtain ⟨σ_7, eσ_7, hf⟩ := ol hf
  refine tw_put X I 43 (ty := .int) (by decide) (by decide) rfl q2730 rfl rfl rfl rfl eσ_7 dX4_findsBest_177 (fun H locs I => ?_)
  refine lv_aload_n hx hb dX4_findsBest_180 rfl (lv_at hl 0 rfl) ?_
  refine lv_iload hx hb dX4_findsBest_181 (lv_at hl 6 rfl) ?_
  obtain ⟨σ_8, eσ_8, hf⟩ := ol hf
  refine tw_put X I 44 (ty := .int) (by decide) (by decide) rfl q2731 rfl rfl rfl rfl eσ_8 dX4_findsBest_183 (fun H locs I => ?_)
  exact wX4_findsBest_186 hR X N r52 hr52 r64 hr64 _ _ _ _ _ _ _ _ _ _ _ _ I (lv_sub hl [0, 1, 2, 3, 4, 5, 6] rfl) hf
theorem wX4_findsBest_64 {E : EV} {l : Launch} {p : Program} {e : Env} {s : State} {m : MethodId} {args : Array Value} {below : List Frame} {meth : Method} {c : Code} {R : Room} {h : Nat} {S : St} {res : (Int32 × TS)} (hR : 4 ≤ R.frames ∧ 98 ≤ R.locals) (X : MX E p s m args meth c cX4_findsBest 8 (some .boolean) RX4 "findsBest") (N : Nat) (r52 : Int32 → Int32 → Int32 → Int32 → Int32 → TS → Option (Int32 × TS)) (hr52 : ∀ (x1 : Int32) (x2 : Int32) (x3 : Int32) (x4 : Int32) (x5 : Int32) (σ : TS) (H : Heap) (locs : List Loc) (cells slots : Nat) (ls : Array Slot), WI E R s (twS h σ S) H locs cells slots → lv_has ls 8 [(0, .ref h), (1, .int x1), (2, .int x2), (3, .int x3), (4, .int x4), (5, .int x5)] → r52 x1 x2 x3 x4 x5 σ = some res → W p l e R s m args below meth c H locs cells slots (MQ below (Qd E R.cells R.slots (some (.int res.1)) (twS h res.2 S)) args s R.cells R.slots (fr E)) (F0 m 52 ls [])) : ∀ (n : Nat) (x1 : Int32) (x2 : Int32) (x3 : Int32) (x4 : Int32) (x5 : Int32) (x6 : Int32) (σ : TS) (H : Heap) (locs : List Loc) (cells slots : Nat) (ls : Array Slot), WI E R s (twS h σ S) H locs cells slots → lv_has ls 8 [(0, .ref h), (1, .int x1), (2, .int x2), (3, .int x3), (4, .int x4), (5, .int x5), (6, .int x6)] → fX4_findsBest_64 N r52 n x1 x2 x3 x4 x5 x6 σ = some res → W p l e R s m args below meth c H locs cells slots (MQ below (Qd E R.cells R.slots (some (.int res.1)) (twS h res.2 S)) args s R.cells R.slots (fr E)) (F0 m 64 ls []) := by
  intro n
  induction n with
  | zero => intro x1 x2 x3 x4 x5 x6 σ H locs cells slots ls I hl hf; exact nomatch (show none = some res from hf)
  | succ n ih =>
    intro x1 x2 x3 x4 x5 x6 σ H locs cells slots ls I hl hf
    obtain ⟨⟨hx, hb, hml, hown, hts⟩, -⟩ := id X
    rw [fX4_findsBest_64.eq_2] at hf
    refine lv_iload hx hb dX4_findsBest_64 (lv_at hl 6 rfl) ?_
    refine lv_iload_n hx hb dX4_findsBest_66 rfl (lv_at hl 3 rfl) ?_
    refine lv_iconst (v := 1) hx hb dX4_findsBest_67 (by decide) ?_
    refine lv_iadd hx hb dX4_findsBest_68 ?_
    refine lv_icmp_gt (tgt := 192) hx hb dX4_findsBest_69 (by decide) (fun c_69 => ?_) (fun c_69 => ?_)
    · have hf := ip c_69 hf
      obtain ⟨x5_9, ex5_9, hf⟩ := ol hf
      refine lv_iinc (v := x5_9) (lv' := [(5, .int x5_9), (0, .ref h), (1, .int x1), (2, .int x2), (3, .int x3), (4, .int x4), (6, .int x6)]) hx hb dX4_findsBest_192 hl (k := 5) rfl ex5_9 (by decide) rfl (fun ls hl => ?_)
      refine lv_goto (tgt := 52) hx hb dX4_findsBest_195 (by decide) ?_
      exact hr52 _ _ _ _ _ _ _ _ _ _ _ I (lv_sub hl [1, 2, 3, 4, 5, 0] rfl) hf
    · have hf := im c_69 hf
      refine lv_aload_n hx hb dX4_findsBest_72 rfl (lv_at hl 0 rfl) ?_
      refine lv_iload_n hx hb dX4_findsBest_73 rfl (lv_at hl 1 rfl) ?_
      refine lv_iload_n hx hb dX4_findsBest_74 rfl (lv_at hl 2 rfl) ?_
      refine lv_iload hx hb dX4_findsBest_75 (lv_at hl 5 rfl) ?_
      refine lv_iload hx hb dX4_findsBest_77 (lv_at hl 6 rfl) ?_
      obtain ⟨σ_11, eσ_11, hf⟩ := ob hf
      refine tw_V none (rs := []) (rest := []) (As := [.int x1, .int x2, .int x5, .int x6]) X I (mX4_insertsAt X.2.2.2.2.1 eσ_11) lvX4_insertsAt hdX4_insertsAt ⟨Nat.le_trans (Nat.le_of_ble_eq_true rfl) hR.1, Nat.le_trans (Nat.le_of_ble_eq_true rfl) hR.2⟩ rfl hl.1 rfl (Nat.le_of_ble_eq_true rfl) rfl dX4_findsBest_79 (fun H locs cells slots I => ?_)
      refine lv_aload_n hx hb dX4_findsBest_82 rfl (lv_at hl 0 rfl) ?_
      refine lv_iload_n hx hb dX4_findsBest_83 rfl (lv_at hl 1 rfl) ?_
      obtain ⟨v_12, ev_12, hf⟩ := ob hf
      refine tw_V (some (.int v_12.1)) (rs := [.int v_12.1]) (rest := []) (As := [.int x1]) X I (mX4_plans X.2.2.2.2.1 ev_12) lvX4_plans hdX4_plans ⟨Nat.le_trans (Nat.le_of_ble_eq_true rfl) hR.1, Nat.le_trans (Nat.le_of_ble_eq_true rfl) hR.2⟩ rfl hl.1 rfl (Nat.le_of_ble_eq_true rfl) rfl dX4_findsBest_84 (fun H locs cells slots I => ?_)
      refine lv_if_ne (tgt := 93) hx hb dX4_findsBest_87 (by decide) (fun c_87 => ?_) (fun c_87 => ?_)
      · have hf := im c_87 hf
        refine lv_aload_n hx hb dX4_findsBest_93 rfl (lv_at hl 0 rfl) ?_
        refine lv_iload_n hx hb dX4_findsBest_94 rfl (lv_at hl 1 rfl) ?_
        obtain ⟨v_14, ev_14, hf⟩ := ob hf
        refine tw_V (some (.int v_14)) (rs := [.int v_14]) (rest := []) (As := [.int x1]) X I (mX4_sumOfWays X.2.2.2.2.1 ev_14) lvX4_sumOfWays hdX4_sumOfWays ⟨Nat.le_trans (Nat.le_of_ble_eq_true rfl) hR.1, Nat.le_trans (Nat.le_of_ble_eq_true rfl) hR.2⟩ rfl hl.1 rfl (Nat.le_of_ble_eq_true rfl) rfl dX4_findsBest_95 (fun H locs cells slots I => ?_)
        refine lv_iload hx hb dX4_findsBest_98 (lv_at hl 4 rfl) ?_
        refine lv_isub hx hb dX4_findsBest_100 ?_
        obtain ⟨x7_16, ex7_16, hf⟩ := ol hf
        refine nm_i ex7_16 ?_
        refine lv_istore (lv' := [(7, .int x7_16), (0, .ref h), (1, .int x1), (2, .int x2), (3, .int x3), (4, .int x4), (5, .int x5), (6, .int x6)]) hx hb dX4_findsBest_101 hl (by decide) rfl (fun ls hl => ?_)
        refine lv_aload_n hx hb dX4_findsBest_103 rfl (lv_at hl 1 rfl) ?_
        refine tw_get X I 40 (v := .int (v_12.2.1 0 40)) (by decide) q2727 rfl dX4_findsBest_104 ?_
        refine lv_iconst (v := (-1)) hx hb dX4_findsBest_107 (by decide) ?_
        refine lv_icmp_eq (tgt := 146) hx hb dX4_findsBest_108 (by decide) (fun c_108 => ?_) (fun c_108 => ?_)
        · have hf := ip c_108 hf
          exact wX4_findsBest_146 hR X N r52 hr52 (fX4_findsBest_64 N r52 n) ih _ _ _ _ _ _ _ _ _ _ _ _ _ I (lv_sub hl [1, 2, 3, 4, 5, 6, 7, 0] rfl) hf
        · have hf := im c_108 hf
          refine lv_iload hx hb dX4_findsBest_111 (lv_at hl 0 rfl) ?_
          refine lv_aload_n hx hb dX4_findsBest_113 rfl (lv_at hl 1 rfl) ?_
          refine tw_get X I 40 (v := .int (v_12.2.1 0 40)) (by decide) q2727 rfl dX4_findsBest_114 ?_
          refine lv_icmp_gt (tgt := 186) hx hb dX4_findsBest_117 (by decide) (fun c_117 => ?_) (fun c_117 => ?_)
          · have hf := ip c_117 hf
            exact wX4_findsBest_186 hR X N r52 hr52 (fX4_findsBest_64 N r52 n) ih _ _ _ _ _ _ _ _ _ _ _ _ I (lv_sub hl [1, 2, 3, 4, 5, 6, 7] rfl) hf
          · have hf := im c_117 hf
            refine lv_iload hx hb dX4_findsBest_120 (lv_at hl 0 rfl) ?_
            refine lv_aload_n hx hb dX4_findsBest_122 rfl (lv_at hl 1 rfl) ?_
            refine tw_get X I 40 (v := .int (v_12.2.1 0 40)) (by decide) q2727 rfl dX4_findsBest_123 ?_
            refine lv_icmp_ne (tgt := 146) hx hb dX4_findsBest_126 (by decide) (fun c_126 => ?_) (fun c_126 => ?_)
            · have hf := im c_126 hf
              exact wX4_findsBest_146 hR X N r52 hr52 (fX4_findsBest_64 N r52 n) ih _ _ _ _ _ _ _ _ _ _ _ _ _ I (lv_sub hl [1, 2, 3, 4, 5, 6, 7, 0] rfl) hf
            · have hf := ip c_126 hf
              refine lv_aload_n hx hb dX4_findsBest_129 rfl (lv_at hl 1 rfl) ?_
              refine tw_get X I 34 (v := .ref (h + 15)) (by decide) q2721 rfl dX4_findsBest_130 ?_
              refine lv_iload hx hb dX4_findsBest_133 (lv_at hl 6 rfl) ?_
              obtain ⟨v_17, ev_17, hf⟩ := ob hf
              refine tw_ald X I 15 (by decide) (by decide) (by decide) ev_17 dX4_findsBest_135 ?_
              refine lv_aload_n hx hb dX4_findsBest_136 rfl (lv_at hl 1 rfl) ?_
              refine tw_get X I 41 (v := .int (v_12.2.1 0 41)) (by decide) q2728 rfl dX4_findsBest_137 ?_
              refine lv_icmp_lt (tgt := 146) hx hb dX4_findsBest_140 (by decide) (fun c_140 => ?_) (fun c_140 => ?_)
              · have hf := ip c_140 hf
                exact wX4_findsBest_146 hR X N r52 hr52 (fX4_findsBest_64 N r52 n) ih _ _ _ _ _ _ _ _ _ _ _ _ _ I (lv_sub hl [1, 2, 3, 4, 5, 6, 7, 0] rfl) hf
              · have hf := im c_140 hf
                refine lv_goto (tgt := 186) hx hb dX4_findsBest_143 (by decide) ?_
                exact wX4_findsBest_186 hR X N r52 hr52 (fX4_findsBest_64 N r52 n) ih _ _ _ _ _ _ _ _ _ _ _ _ I (lv_sub hl [1, 2, 3, 4, 5, 6, 7] rfl) hf
      · have hf := ip c_87 hf
        refine lv_goto (tgt := 186) hx hb dX4_findsBest_90 (by decide) ?_
        exact wX4_findsBest_186 hR X N r52 hr52 (fX4_findsBest_64 N r52 n) ih _ _ _ _ _ _ _ _ _ _ _ _ I (lv_sub hl [0, 1, 2, 3, 4, 5, 6] rfl) hf
theorem wX4_findsBest_52 {E : EV} {l : Launch} {p : Program} {e : Env} {s : State} {m : MethodId} {args : Array Value} {below : List Frame} {meth : Method} {c : Code} {R : Room} {h : Nat} {S : St} {res : (Int32 × TS)} (hR : 4 ≤ R.frames ∧ 98 ≤ R.locals) (X : MX E p s m args meth c cX4_findsBest 8 (some .boolean) RX4 "findsBest") (N : Nat) : ∀ (n : Nat) (x1 : Int32) (x2 : Int32) (x3 : Int32) (x4 : Int32) (x5 : Int32) (σ : TS) (H : Heap) (locs : List Loc) (cells slots : Nat) (ls : Array Slot), WI E R s (twS h σ S) H locs cells slots → lv_has ls 8 [(0, .ref h), (1, .int x1), (2, .int x2), (3, .int x3), (4, .int x4), (5, .int x5)] → fX4_findsBest_52 N n x1 x2 x3 x4 x5 σ = some res → W p l e R s m args below meth c H locs cells slots (MQ below (Qd E R.cells R.slots (some (.int res.1)) (twS h res.2 S)) args s R.cells R.slots (fr E)) (F0 m 52 ls []) := by
  intro n
  induction n with
  | zero => intro x1 x2 x3 x4 x5 σ H locs cells slots ls I hl hf; exact nomatch (show none = some res from hf)
  | succ n ih =>
    intro x1 x2 x3 x4 x5 σ H locs cells slots ls I hl hf
    obtain ⟨⟨hx, hb, hml, hown, hts⟩, -⟩ := id X
    rw [fX4_findsBest_52.eq_2] at hf
    refine lv_iload hx hb dX4_findsBest_52 (lv_at hl 5 rfl) ?_
    refine lv_iload_n hx hb dX4_findsBest_54 rfl (lv_at hl 3 rfl) ?_
    refine lv_icmp_gt (tgt := 198) hx hb dX4_findsBest_55 (by decide) (fun c_55 => ?_) (fun c_55 => ?_)
    · have hf := ip c_55 hf
      refine lv_aload_n hx hb dX4_findsBest_198 rfl (lv_at hl 0 rfl) ?_
      refine tw_get X I 40 (v := .int (σ.1 0 40)) (by decide) q2727 rfl dX4_findsBest_199 ?_
      refine lv_iconst (v := (-1)) hx hb dX4_findsBest_202 (by decide) ?_
      refine lv_icmp_eq (tgt := 210) hx hb dX4_findsBest_203 (by decide) (fun c_203 => ?_) (fun c_203 => ?_)
      · have hf := ip c_203 hf
        refine lv_iconst (v := 0) hx hb dX4_findsBest_210 (by decide) ?_
        cases os hf
        exact r_zret X I (Or.inl rfl) dX4_findsBest_211
      · have hf := im c_203 hf
        refine lv_iconst (v := 1) hx hb dX4_findsBest_206 (by decide) ?_
        refine lv_goto (tgt := 211) hx hb dX4_findsBest_207 (by decide) ?_
        cases os hf
        exact r_zret X I (Or.inr rfl) dX4_findsBest_211
    · have hf := im c_55 hf
      refine lv_iload hx hb dX4_findsBest_58 (lv_at hl 5 rfl) ?_
      refine lv_iconst (v := 1) hx hb dX4_findsBest_60 (by decide) ?_
      refine lv_iadd hx hb dX4_findsBest_61 ?_
      obtain ⟨x6_18, ex6_18, hf⟩ := ol hf
      refine nm_i ex6_18 ?_
      refine lv_istore (lv' := [(6, .int x6_18), (0, .ref h), (1, .int x1), (2, .int x2), (3, .int x3), (4, .int x4), (5, .int x5)]) hx hb dX4_findsBest_62 hl (by decide) rfl (fun ls hl => ?_)
      exact wX4_findsBest_64 hR X N (fX4_findsBest_52 N n) ih N _ _ _ _ _ _ _ _ _ _ _ _ I (lv_sub hl [1, 2, 3, 4, 5, 6, 0] rfl) hf
theorem wX4_findsBest_50 {E : EV} {l : Launch} {p : Program} {e : Env} {s : State} {m : MethodId} {args : Array Value} {below : List Frame} {meth : Method} {c : Code} {R : Room} {h : Nat} {S : St} {res : (Int32 × TS)} (hR : 4 ≤ R.frames ∧ 98 ≤ R.locals) (X : MX E p s m args meth c cX4_findsBest 8 (some .boolean) RX4 "findsBest") (N : Nat) : ∀ (x1 : Int32) (x2 : Int32) (x3 : Int32) (x4 : Int32) (y0 : Int32) (σ : TS) (H : Heap) (locs : List Loc) (cells slots : Nat) (ls : Array Slot), WI E R s (twS h σ S) H locs cells slots → lv_has ls 8 [(0, .ref h), (1, .int x1), (2, .int x2), (3, .int x3), (4, .int x4)] → fX4_findsBest_50 N x1 x2 x3 x4 y0 σ = some res → W p l e R s m args below meth c H locs cells slots (MQ below (Qd E R.cells R.slots (some (.int res.1)) (twS h res.2 S)) args s R.cells R.slots (fr E)) (F0 m 50 ls [.int y0]) := by
  intro x1 x2 x3 x4 y0 σ H locs cells slots ls I hl hf
  obtain ⟨⟨hx, hb, hml, hown, hts⟩, -⟩ := id X
  unfold fX4_findsBest_50 at hf
  refine lv_istore (lv' := [(5, .int y0), (0, .ref h), (1, .int x1), (2, .int x2), (3, .int x3), (4, .int x4)]) hx hb dX4_findsBest_50 hl (by decide) rfl (fun ls hl => ?_)
  exact wX4_findsBest_52 hR X N N _ _ _ _ _ _ _ _ _ _ _ I (lv_sub hl [1, 2, 3, 4, 5, 0] rfl) hf
theorem wX4_findsBest_0 {E : EV} {l : Launch} {p : Program} {e : Env} {s : State} {m : MethodId} {args : Array Value} {below : List Frame} {meth : Method} {c : Code} {R : Room} {h : Nat} {S : St} {res : (Int32 × TS)} (hR : 4 ≤ R.frames ∧ 98 ≤ R.locals) (X : MX E p s m args meth c cX4_findsBest 8 (some .boolean) RX4 "findsBest") (N : Nat) : ∀ (x1 : Int32) (x2 : Int32) (σ : TS) (H : Heap) (locs : List Loc) (cells slots : Nat) (ls : Array Slot), WI E R s (twS h σ S) H locs cells slots → lv_has ls 8 [(0, .ref h), (1, .int x1), (2, .int x2)] → fX4_findsBest N σ x1 x2 = some res → W p l e R s m args below meth c H locs cells slots (MQ below (Qd E R.cells R.slots (some (.int res.1)) (twS h res.2 S)) args s R.cells R.slots (fr E)) (F0 m 0 ls []) := by
  intro x1 x2 σ H locs cells slots ls I hl hf
  obtain ⟨⟨hx, hb, hml, hown, hts⟩, -⟩ := id X
  unfold fX4_findsBest at hf
  refine lv_aload_n hx hb dX4_findsBest_0 rfl (lv_at hl 0 rfl) ?_
  refine lv_iconst (v := (-1)) hx hb dX4_findsBest_1 (by decide) ?_
  obtain ⟨σ_19, eσ_19, hf⟩ := ol hf
  refine tw_put X I 40 (ty := .int) (by decide) (by decide) rfl q2727 rfl rfl rfl rfl eσ_19 dX4_findsBest_2 (fun H locs I => ?_)
  refine lv_aload_n hx hb dX4_findsBest_5 rfl (lv_at hl 0 rfl) ?_
  refine lv_iload_n hx hb dX4_findsBest_6 rfl (lv_at hl 1 rfl) ?_
  refine lv_bipush (v := 11) hx hb dX4_findsBest_7 (by decide) ?_
  obtain ⟨v_20, ev_20, hf⟩ := ob hf
  refine tw_V (some (.int v_20)) (rs := [.int v_20]) (rest := []) (As := [.int x1, .int (11 : Int32)]) X I (mX4_in2 X.2.2.2.2.1 ev_20) lvX4_in2 hdX4_in2 ⟨Nat.le_trans (Nat.le_of_ble_eq_true rfl) hR.1, Nat.le_trans (Nat.le_of_ble_eq_true rfl) hR.2⟩ rfl hl.1 rfl (Nat.le_of_ble_eq_true rfl) rfl dX4_findsBest_9 (fun H locs cells slots I => ?_)
  refine lv_istore_n (lv' := [(3, .int v_20), (0, .ref h), (1, .int x1), (2, .int x2)]) hx hb dX4_findsBest_12 rfl hl (by decide) rfl (fun ls hl => ?_)
  refine lv_iload_n hx hb dX4_findsBest_13 rfl (lv_at hl 0 rfl) ?_
  refine lv_iconst (v := 2) hx hb dX4_findsBest_14 (by decide) ?_
  refine lv_iadd hx hb dX4_findsBest_15 ?_
  refine lv_bipush (v := 12) hx hb dX4_findsBest_16 (by decide) ?_
  refine lv_icmp_le (tgt := 23) hx hb dX4_findsBest_18 (by decide) (fun c_18 => ?_) (fun c_18 => ?_)
  · have hf := ip c_18 hf
    refine lv_aload_n hx hb dX4_findsBest_23 rfl (lv_at hl 1 rfl) ?_
    refine lv_iload_n hx hb dX4_findsBest_24 rfl (lv_at hl 2 rfl) ?_
    obtain ⟨σ_23, eσ_23, hf⟩ := ob hf
    refine tw_V none (rs := []) (rest := []) (As := [.int x1]) X I (mX4_lists X.2.2.2.2.1 eσ_23) lvX4_lists hdX4_lists ⟨Nat.le_trans (Nat.le_of_ble_eq_true rfl) hR.1, Nat.le_trans (Nat.le_of_ble_eq_true rfl) hR.2⟩ rfl hl.1 rfl (Nat.le_of_ble_eq_true rfl) rfl dX4_findsBest_25 (fun H locs cells slots I => ?_)
    refine lv_aload_n hx hb dX4_findsBest_28 rfl (lv_at hl 1 rfl) ?_
    refine lv_iload_n hx hb dX4_findsBest_29 rfl (lv_at hl 2 rfl) ?_
    obtain ⟨v_24, ev_24, hf⟩ := ob hf
    refine tw_V (some (.int v_24)) (rs := [.int v_24]) (rest := []) (As := [.int x1]) X I (mX4_sumOfWays X.2.2.2.2.1 ev_24) lvX4_sumOfWays hdX4_sumOfWays ⟨Nat.le_trans (Nat.le_of_ble_eq_true rfl) hR.1, Nat.le_trans (Nat.le_of_ble_eq_true rfl) hR.2⟩ rfl hl.1 rfl (Nat.le_of_ble_eq_true rfl) rfl dX4_findsBest_30 (fun H locs cells slots I => ?_)
    refine lv_istore (lv' := [(4, .int v_24), (3, .int v_20), (0, .ref h), (1, .int x1), (2, .int x2)]) hx hb dX4_findsBest_33 hl (by decide) rfl (fun ls hl => ?_)
    refine lv_aload_n hx hb dX4_findsBest_35 rfl (lv_at hl 2 rfl) ?_
    refine lv_iload_n hx hb dX4_findsBest_36 rfl (lv_at hl 3 rfl) ?_
    refine lv_iconst (v := 3) hx hb dX4_findsBest_37 (by decide) ?_
    obtain ⟨v_26, ev_26, hf⟩ := ob hf
    refine tw_V (some (.int v_26)) (rs := [.int v_26]) (rest := []) (As := [.int x1, .int (3 : Int32)]) X I (mX4_in2 X.2.2.2.2.1 ev_26) lvX4_in2 hdX4_in2 ⟨Nat.le_trans (Nat.le_of_ble_eq_true rfl) hR.1, Nat.le_trans (Nat.le_of_ble_eq_true rfl) hR.2⟩ rfl hl.1 rfl (Nat.le_of_ble_eq_true rfl) rfl dX4_findsBest_38 (fun H locs cells slots I => ?_)
    refine lv_iconst (v := (-1)) hx hb dX4_findsBest_41 (by decide) ?_
    refine lv_icmp_ne (tgt := 49) hx hb dX4_findsBest_42 (by decide) (fun c_42 => ?_) (fun c_42 => ?_)
    · have hf := im c_42 hf
      refine lv_iconst (v := 1) hx hb dX4_findsBest_49 (by decide) ?_
      exact wX4_findsBest_50 hR X N _ _ _ _ _ _ _ _ _ _ _ I (lv_sub hl [2, 3, 4, 1, 0] rfl) hf
    · have hf := ip c_42 hf
      refine lv_iconst (v := 0) hx hb dX4_findsBest_45 (by decide) ?_
      refine lv_goto (tgt := 50) hx hb dX4_findsBest_46 (by decide) ?_
      exact wX4_findsBest_50 hR X N _ _ _ _ _ _ _ _ _ _ _ I (lv_sub hl [2, 3, 4, 1, 0] rfl) hf
  · have hf := im c_18 hf
    refine lv_iconst (v := 0) hx hb dX4_findsBest_21 (by decide) ?_
    cases os hf
    exact r_zret X I (Or.inl rfl) dX4_findsBest_22
theorem mX4_findsBest {E : EV} {l : Launch} {h : Nat} {S : St} {N : Nat} {σ : TS} {x1 : Int32} {x2 : Int32} {res : (Int32 × TS)} (hE : EK E) (hf : fX4_findsBest N σ x1 x2 = some res) : CM E l yX4_findsBest (ws_ yX4_findsBest cX4_findsBest 8 (some .boolean)) 4 98 [.ref h, .int x1, .int x2] (twS h σ S) (some (.int res.1)) (twS h res.2 S) := by
  refine CM.of hE (by decide) rfl rfl (Nat.le_of_ble_eq_true rfl) ?_
  intro p e s m below meth c X I ls hl
  exact wX4_findsBest_0 ⟨Nat.le_refl _, Nat.le_refl _⟩ X N _ _ _ _ _ _ _ _ I hl hf
/-! extra(II)I -/
theorem wX4_extra_0 {E : EV} {l : Launch} {p : Program} {e : Env} {s : State} {m : MethodId} {args : Array Value} {below : List Frame} {meth : Method} {c : Code} {R : Room} {h : Nat} {S : St} {res : (Int32 × TS)} (hR : 5 ≤ R.frames ∧ 125 ≤ R.locals) (X : MX E p s m args meth c cX4_extra 3 (some .int) RX4 "extra") (N : Nat) : ∀ (x1 : Int32) (x2 : Int32) (σ : TS) (H : Heap) (locs : List Loc) (cells slots : Nat) (ls : Array Slot), WI E R s (twS h σ S) H locs cells slots → lv_has ls 3 [(0, .ref h), (1, .int x1), (2, .int x2)] → fX4_extra N σ x1 x2 = some res → W p l e R s m args below meth c H locs cells slots (MQ below (Qd E R.cells R.slots (some (.int res.1)) (twS h res.2 S)) args s R.cells R.slots (fr E)) (F0 m 0 ls []) := by
  intro x1 x2 σ H locs cells slots ls I hl hf
  obtain ⟨⟨hx, hb, hml, hown, hts⟩, -⟩ := id X
  unfold fX4_extra at hf
  refine lv_aload_n hx hb dX4_extra_0 rfl (lv_at hl 0 rfl) ?_
  refine lv_iconst (v := 0) hx hb dX4_extra_1 (by decide) ?_
  obtain ⟨σ_1, eσ_1, hf⟩ := ol hf
  refine tw_put X I 0 (ty := .int) (by decide) (by decide) rfl q2687 rfl rfl rfl rfl eσ_1 dX4_extra_2 (fun H locs I => ?_)
  refine lv_aload_n hx hb dX4_extra_5 rfl (lv_at hl 0 rfl) ?_
  refine lv_iload_n hx hb dX4_extra_6 rfl (lv_at hl 1 rfl) ?_
  obtain ⟨v_2, ev_2, hf⟩ := ob hf
  refine tw_V (some (.int v_2.1)) (rs := [.int v_2.1]) (rest := []) (As := [.int x1]) X I (mX4_noRide X.2.2.2.2.1 ev_2) lvX4_noRide hdX4_noRide ⟨Nat.le_trans (Nat.le_of_ble_eq_true rfl) hR.1, Nat.le_trans (Nat.le_of_ble_eq_true rfl) hR.2⟩ rfl hl.1 rfl (Nat.le_of_ble_eq_true rfl) rfl dX4_extra_7 (fun H locs cells slots I => ?_)
  refine lv_if_ne (tgt := 21) hx hb dX4_extra_10 (by decide) (fun c_10 => ?_) (fun c_10 => ?_)
  · have hf := im c_10 hf
    refine lv_iconst (v := 0) hx hb dX4_extra_21 (by decide) ?_
    cases os hf
    exact r_iret X I dX4_extra_22
  · have hf := ip c_10 hf
    refine lv_aload_n hx hb dX4_extra_13 rfl (lv_at hl 0 rfl) ?_
    refine lv_iload_n hx hb dX4_extra_14 rfl (lv_at hl 2 rfl) ?_
    obtain ⟨v_4, ev_4, hf⟩ := ob hf
    refine tw_V (some (.int v_4.1)) (rs := [.int v_4.1]) (rest := []) (As := [.int x2]) X I (mX4_noTaxi X.2.2.2.2.1 ev_4) lvX4_noTaxi hdX4_noTaxi ⟨Nat.le_trans (Nat.le_of_ble_eq_true rfl) hR.1, Nat.le_trans (Nat.le_of_ble_eq_true rfl) hR.2⟩ rfl hl.1 rfl (Nat.le_of_ble_eq_true rfl) rfl dX4_extra_15 (fun H locs cells slots I => ?_)
    refine lv_if_eq (tgt := 23) hx hb dX4_extra_18 (by decide) (fun c_18 => ?_) (fun c_18 => ?_)
    · have hf := ip c_18 hf
      refine lv_aload_n hx hb dX4_extra_23 rfl (lv_at hl 0 rfl) ?_
      refine lv_iload_n hx hb dX4_extra_24 rfl (lv_at hl 1 rfl) ?_
      refine lv_iconst (v := 0) hx hb dX4_extra_25 (by decide) ?_
      obtain ⟨v_6, ev_6, hf⟩ := ob hf
      refine tw_V (some (.int v_6)) (rs := [.int v_6]) (rest := []) (As := [.int x1, .int (0 : Int32)]) X I (mX4_of X.2.2.2.2.1 ev_6) lvX4_of hdX4_of ⟨Nat.le_trans (Nat.le_of_ble_eq_true rfl) hR.1, Nat.le_trans (Nat.le_of_ble_eq_true rfl) hR.2⟩ rfl hl.1 rfl (Nat.le_of_ble_eq_true rfl) rfl dX4_extra_26 (fun H locs cells slots I => ?_)
      refine lv_if_ne (tgt := 48) hx hb dX4_extra_29 (by decide) (fun c_29 => ?_) (fun c_29 => ?_)
      · have hf := im c_29 hf
        refine lv_iconst (v := (-1)) hx hb dX4_extra_48 (by decide) ?_
        cases os hf
        exact r_iret X I dX4_extra_49
      · have hf := ip c_29 hf
        refine lv_aload_n hx hb dX4_extra_32 rfl (lv_at hl 0 rfl) ?_
        refine lv_iload_n hx hb dX4_extra_33 rfl (lv_at hl 2 rfl) ?_
        refine lv_iload_n hx hb dX4_extra_34 rfl (lv_at hl 1 rfl) ?_
        obtain ⟨v_8, ev_8, hf⟩ := ob hf
        refine tw_V (some (.int v_8.1)) (rs := [.int v_8.1]) (rest := []) (As := [.int x2, .int x1]) X I (mX4_findsBest X.2.2.2.2.1 ev_8) lvX4_findsBest hdX4_findsBest ⟨Nat.le_trans (Nat.le_of_ble_eq_true rfl) hR.1, Nat.le_trans (Nat.le_of_ble_eq_true rfl) hR.2⟩ rfl hl.1 rfl (Nat.le_of_ble_eq_true rfl) rfl dX4_extra_35 (fun H locs cells slots I => ?_)
        refine lv_if_eq (tgt := 48) hx hb dX4_extra_38 (by decide) (fun c_38 => ?_) (fun c_38 => ?_)
        · have hf := ip c_38 hf
          refine lv_iconst (v := (-1)) hx hb dX4_extra_48 (by decide) ?_
          cases os hf
          exact r_iret X I dX4_extra_49
        · have hf := im c_38 hf
          refine lv_aload_n hx hb dX4_extra_41 rfl (lv_at hl 0 rfl) ?_
          refine tw_get X I 40 (v := .int (v_8.2.1 0 40)) (by decide) q2727 rfl dX4_extra_42 ?_
          refine lv_goto (tgt := 49) hx hb dX4_extra_45 (by decide) ?_
          cases os hf
          exact r_iret X I dX4_extra_49
    · have hf := im c_18 hf
      refine lv_iconst (v := 0) hx hb dX4_extra_21 (by decide) ?_
      cases os hf
      exact r_iret X I dX4_extra_22
theorem mX4_extra {E : EV} {l : Launch} {h : Nat} {S : St} {N : Nat} {σ : TS} {x1 : Int32} {x2 : Int32} {res : (Int32 × TS)} (hE : EK E) (hf : fX4_extra N σ x1 x2 = some res) : CM E l yX4_extra (ws_ yX4_extra cX4_extra 3 (some .int)) 5 125 [.ref h, .int x1, .int x2] (twS h σ S) (some (.int res.1)) (twS h res.2 S) := by
  refine CM.of hE (by decide) rfl rfl (Nat.le_of_ble_eq_true rfl) ?_
  intro p e s m below meth c X I ls hl
  exact wX4_extra_0 ⟨Nat.le_refl _, Nat.le_refl _⟩ X N _ _ _ _ _ _ _ _ I hl hf
/-! lesser(II)I -/
theorem lvX4_lesser : GoodIn lw_all (va_wsS RX4 330 yX4_lesser (ws_ yX4_lesser cX4_lesser 2 (some .int))) := lw_S q3107 q3108 q120 q3109
theorem hdX4_lesser : yX4_lesser.cls ≠ "java/lang/invoke/MethodHandle" ∧ yX4_lesser.cls ≠ "java/lang/invoke/VarHandle" ∧ (parseMethodDescriptor yX4_lesser.desc).map (fun d => d.parameters.length) = some 2 := by decide +kernel
theorem wX4_lesser_0 {E : EV} {l : Launch} {p : Program} {e : Env} {s : State} {m : MethodId} {args : Array Value} {below : List Frame} {meth : Method} {c : Code} {R : Room} {σ : St} {res : Int32} (hR : 0 ≤ R.frames ∧ 0 ≤ R.locals) (X : MX E p s m args meth c cX4_lesser 2 (some .int) RX4 "lesser") : ∀ (x0 : Int32) (x1 : Int32) (H : Heap) (locs : List Loc) (cells slots : Nat) (ls : Array Slot), WI E R s σ H locs cells slots → lv_has ls 2 [(0, .int x0), (1, .int x1)] → fX4_lesser x0 x1 = some res → W p l e R s m args below meth c H locs cells slots (MQ below (Qd E R.cells R.slots (some (.int res)) σ) args s R.cells R.slots (fr E)) (F0 m 0 ls []) := by
  intro x0 x1 H locs cells slots ls I hl hf
  obtain ⟨⟨hx, hb, hml, hown, hts⟩, -⟩ := id X
  unfold fX4_lesser at hf
  refine lv_iload_n hx hb dX4_lesser_0 rfl (lv_at hl 0 rfl) ?_
  refine lv_iload_n hx hb dX4_lesser_1 rfl (lv_at hl 1 rfl) ?_
  refine lv_icmp_ge (tgt := 9) hx hb dX4_lesser_2 (by decide) (fun c_2 => ?_) (fun c_2 => ?_)
  · have hf := ip c_2 hf
    refine lv_iload_n hx hb dX4_lesser_9 rfl (lv_at hl 1 rfl) ?_
    cases os hf
    exact r_iret X I dX4_lesser_10
  · have hf := im c_2 hf
    refine lv_iload_n hx hb dX4_lesser_5 rfl (lv_at hl 0 rfl) ?_
    refine lv_goto (tgt := 10) hx hb dX4_lesser_6 (by decide) ?_
    cases os hf
    exact r_iret X I dX4_lesser_10
theorem mX4_lesser {E : EV} {l : Launch} {σ : St} {x0 : Int32} {x1 : Int32} {res : Int32} (hE : EK E) (hf : fX4_lesser x0 x1 = some res) : CM E l yX4_lesser (ws_ yX4_lesser cX4_lesser 2 (some .int)) 0 0 [.int x0, .int x1] σ (some (.int res)) σ := by
  refine CM.of hE (by decide) rfl rfl (Nat.le_of_ble_eq_true rfl) ?_
  intro p e s m below meth c X I ls hl
  exact wX4_lesser_0 ⟨Nat.le_refl _, Nat.le_refl _⟩ X _ _ _ _ _ _ _ I hl hf
/-! discountFor(I)I -/
theorem lvX4_discountFor : GoodIn lw_all (wsV RX4 333 RX4 yX4_discountFor (ws_ yX4_discountFor cX4_discountFor 2 (some .int))) := lw_V q3103 q3105 qs86 q120 q3106
theorem hdX4_discountFor : yX4_discountFor.cls = RX4 ∧ yX4_discountFor.cls ≠ "java/lang/invoke/MethodHandle" ∧ yX4_discountFor.cls ≠ "java/lang/invoke/VarHandle" ∧ (parseMethodDescriptor yX4_discountFor.desc).map (fun d => d.parameters.length) = some 1 := by decide +kernel
theorem wX4_discountFor_0 {E : EV} {l : Launch} {p : Program} {e : Env} {s : State} {m : MethodId} {args : Array Value} {below : List Frame} {meth : Method} {c : Code} {R : Room} {h : Nat} {S : St} {σ : TS} {res : Int32} (hR : 1 ≤ R.frames ∧ 21 ≤ R.locals) (X : MX E p s m args meth c cX4_discountFor 2 (some .int) RX4 "discountFor") : ∀ (x1 : Int32) (H : Heap) (locs : List Loc) (cells slots : Nat) (ls : Array Slot), WI E R s (twS h σ S) H locs cells slots → lv_has ls 2 [(0, .ref h), (1, .int x1)] → fX4_discountFor σ x1 = some res → W p l e R s m args below meth c H locs cells slots (MQ below (Qd E R.cells R.slots (some (.int res)) (twS h σ S)) args s R.cells R.slots (fr E)) (F0 m 0 ls []) := by
  intro x1 H locs cells slots ls I hl hf
  obtain ⟨⟨hx, hb, hml, hown, hts⟩, -⟩ := id X
  unfold fX4_discountFor at hf
  refine lv_iload_n hx hb dX4_discountFor_0 rfl (lv_at hl 1 rfl) ?_
  refine lv_iconst (v := 2) hx hb dX4_discountFor_1 (by decide) ?_
  refine lv_icmp_ge (tgt := 9) hx hb dX4_discountFor_2 (by decide) (fun c_2 => ?_) (fun c_2 => ?_)
  · have hf := ip c_2 hf
    refine lv_aload_n hx hb dX4_discountFor_9 rfl (lv_at hl 0 rfl) ?_
    refine lv_bipush (v := 7) hx hb dX4_discountFor_10 (by decide) ?_
    refine lv_iload_n hx hb dX4_discountFor_12 rfl (lv_at hl 1 rfl) ?_
    refine lv_iconst (v := 4) hx hb dX4_discountFor_13 (by decide) ?_
    obtain ⟨v_1, ev_1, hf⟩ := ob hf
    refine tw_S (some (.int v_1)) (rs := [.int v_1, .int (7 : Int32), .ref h]) (rest := [.int (7 : Int32), .ref h]) (As := [.int x1, .int (4 : Int32)]) X I (mX4_lesser X.2.2.2.2.1 ev_1) lvX4_lesser hdX4_lesser ⟨Nat.le_trans (Nat.le_of_ble_eq_true rfl) hR.1, Nat.le_trans (Nat.le_of_ble_eq_true rfl) hR.2⟩ rfl hl.1 rfl (Nat.le_of_ble_eq_true rfl) rfl dX4_discountFor_14 (fun H locs cells slots I => ?_)
    refine lv_iadd hx hb dX4_discountFor_17 ?_
    refine lv_iconst (v := 2) hx hb dX4_discountFor_18 (by decide) ?_
    refine lv_isub hx hb dX4_discountFor_19 ?_
    obtain ⟨v_3, ev_3, hf⟩ := ob hf
    refine tw_V (some (.int v_3)) (rs := [.int v_3]) (rest := []) (As := [.int (((7 : Int32) + v_1) - (2 : Int32))]) X I (mX4_ruled X.2.2.2.2.1 ev_3) lvX4_ruled hdX4_ruled ⟨Nat.le_trans (Nat.le_of_ble_eq_true rfl) hR.1, Nat.le_trans (Nat.le_of_ble_eq_true rfl) hR.2⟩ rfl hl.1 rfl (Nat.le_of_ble_eq_true rfl) rfl dX4_discountFor_20 (fun H locs cells slots I => ?_)
    cases os hf
    exact r_iret X I dX4_discountFor_23
  · have hf := im c_2 hf
    refine lv_iconst (v := 0) hx hb dX4_discountFor_5 (by decide) ?_
    refine lv_goto (tgt := 23) hx hb dX4_discountFor_6 (by decide) ?_
    cases os hf
    exact r_iret X I dX4_discountFor_23
theorem mX4_discountFor {E : EV} {l : Launch} {h : Nat} {S : St} {σ : TS} {x1 : Int32} {res : Int32} (hE : EK E) (hf : fX4_discountFor σ x1 = some res) : CM E l yX4_discountFor (ws_ yX4_discountFor cX4_discountFor 2 (some .int)) 1 21 [.ref h, .int x1] (twS h σ S) (some (.int res)) (twS h σ S) := by
  refine CM.of hE (by decide) rfl rfl (Nat.le_of_ble_eq_true rfl) ?_
  intro p e s m below meth c X I ls hl
  exact wX4_discountFor_0 ⟨Nat.le_refl _, Nat.le_refl _⟩ X _ _ _ _ _ _ I hl hf
/-! amountFor(II)I -/
theorem lvX4_amountFor : GoodIn lw_all (wsV RX4 339 RX4 yX4_amountFor (ws_ yX4_amountFor cX4_amountFor 4 (some .int))) := lw_V q3099 q3101 qs85 q120 q3102
theorem hdX4_amountFor : yX4_amountFor.cls = RX4 ∧ yX4_amountFor.cls ≠ "java/lang/invoke/MethodHandle" ∧ yX4_amountFor.cls ≠ "java/lang/invoke/VarHandle" ∧ (parseMethodDescriptor yX4_amountFor.desc).map (fun d => d.parameters.length) = some 2 := by decide +kernel
theorem wX4_amountFor_0 {E : EV} {l : Launch} {p : Program} {e : Env} {s : State} {m : MethodId} {args : Array Value} {below : List Frame} {meth : Method} {c : Code} {R : Room} {h : Nat} {S : St} {σ : TS} {res : Int32} (hR : 2 ≤ R.frames ∧ 42 ≤ R.locals) (X : MX E p s m args meth c cX4_amountFor 4 (some .int) RX4 "amountFor") : ∀ (x1 : Int32) (x2 : Int32) (H : Heap) (locs : List Loc) (cells slots : Nat) (ls : Array Slot), WI E R s (twS h σ S) H locs cells slots → lv_has ls 4 [(0, .ref h), (1, .int x1), (2, .int x2)] → fX4_amountFor σ x1 x2 = some res → W p l e R s m args below meth c H locs cells slots (MQ below (Qd E R.cells R.slots (some (.int res)) (twS h σ S)) args s R.cells R.slots (fr E)) (F0 m 0 ls []) := by
  intro x1 x2 H locs cells slots ls I hl hf
  obtain ⟨⟨hx, hb, hml, hown, hts⟩, -⟩ := id X
  unfold fX4_amountFor at hf
  refine lv_iload_n hx hb dX4_amountFor_0 rfl (lv_at hl 1 rfl) ?_
  refine lv_aload_n hx hb dX4_amountFor_1 rfl (lv_at hl 0 rfl) ?_
  refine tw_get X I 1 (v := .ref (h + 1)) (by decide) q2688 rfl dX4_amountFor_2 ?_
  refine lv_iconst (v := 2) hx hb dX4_amountFor_5 (by decide) ?_
  obtain ⟨v_1, ev_1, hf⟩ := ob hf
  refine tw_ald X I 1 (by decide) (by decide) (by decide) ev_1 dX4_amountFor_6 ?_
  refine lv_imul hx hb dX4_amountFor_7 ?_
  obtain ⟨x3_2, ex3_2, hf⟩ := ol hf
  refine nm_i ex3_2 ?_
  refine lv_istore_n (lv' := [(3, .int x3_2), (0, .ref h), (1, .int x1), (2, .int x2)]) hx hb dX4_amountFor_8 rfl hl (by decide) rfl (fun ls hl => ?_)
  refine lv_iload_n hx hb dX4_amountFor_9 rfl (lv_at hl 0 rfl) ?_
  refine lv_iload_n hx hb dX4_amountFor_10 rfl (lv_at hl 0 rfl) ?_
  refine lv_aload_n hx hb dX4_amountFor_11 rfl (lv_at hl 1 rfl) ?_
  refine lv_iload_n hx hb dX4_amountFor_12 rfl (lv_at hl 3 rfl) ?_
  obtain ⟨v_3, ev_3, hf⟩ := ob hf
  refine tw_V (some (.int v_3)) (rs := [.int v_3, .int x3_2, .int x3_2]) (rest := [.int x3_2, .int x3_2]) (As := [.int x2]) X I (mX4_discountFor X.2.2.2.2.1 ev_3) lvX4_discountFor hdX4_discountFor ⟨Nat.le_trans (Nat.le_of_ble_eq_true rfl) hR.1, Nat.le_trans (Nat.le_of_ble_eq_true rfl) hR.2⟩ rfl hl.1 rfl (Nat.le_of_ble_eq_true rfl) rfl dX4_amountFor_13 (fun H locs cells slots I => ?_)
  refine lv_imul hx hb dX4_amountFor_16 ?_
  refine lv_bipush (v := 100) hx hb dX4_amountFor_17 (by decide) ?_
  refine lv_idiv hx hb dX4_amountFor_19 (by decide) ?_
  refine lv_isub hx hb dX4_amountFor_20 ?_
  cases os hf
  exact r_iret X I dX4_amountFor_21
theorem mX4_amountFor {E : EV} {l : Launch} {h : Nat} {S : St} {σ : TS} {x1 : Int32} {x2 : Int32} {res : Int32} (hE : EK E) (hf : fX4_amountFor σ x1 x2 = some res) : CM E l yX4_amountFor (ws_ yX4_amountFor cX4_amountFor 4 (some .int)) 2 42 [.ref h, .int x1, .int x2] (twS h σ S) (some (.int res)) (twS h σ S) := by
  refine CM.of hE (by decide) rfl rfl (Nat.le_of_ble_eq_true rfl) ?_
  intro p e s m below meth c X I ls hl
  exact wX4_amountFor_0 ⟨Nat.le_refl _, Nat.le_refl _⟩ X _ _ _ _ _ _ _ I hl hf
