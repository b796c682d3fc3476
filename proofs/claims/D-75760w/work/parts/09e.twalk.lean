set_option maxRecDepth 100000
/-! cancel(I)I -/
theorem wX4_cancel_64 {E : EV} {l : Launch} {p : Program} {e : Env} {s : State} {m : MethodId} {args : Array Value} {below : List Frame} {meth : Method} {c : Code} {R : Room} {h : Nat} {S : St} {res : (Int32 × TS)} (hR : 2 ≤ R.frames ∧ 48 ≤ R.locals) (X : MX E p s m args meth c cX4_cancel 3 (some .int) RX4 "cancel") (N : Nat) : ∀ (x1 : Int32) (x2 : Int32) (σ : TS) (H : Heap) (locs : List Loc) (cells slots : Nat) (ls : Array Slot), WI E R s (twS h σ S) H locs cells slots → lv_has ls 3 [(0, .ref h), (1, .int x1), (2, .int x2)] → fX4_cancel_64 N x1 x2 σ = some res → W p l e R s m args below meth c H locs cells slots (MQ below (Qd E R.cells R.slots (some (.int res.1)) (twS h res.2 S)) args s R.cells R.slots (fr E)) (F0 m 64 ls []) := by
  intro x1 x2 σ H locs cells slots ls I hl hf
  obtain ⟨⟨hx, hb, hml, hown, hts⟩, -⟩ := id X
  unfold fX4_cancel_64 at hf
  refine lv_aload_n hx hb dX4_cancel_64 rfl (lv_at hl 0 rfl) ?_
  obtain ⟨σ_2, eσ_2, hf⟩ := ob hf
  refine tw_V none (rs := []) (rest := []) (As := []) X I (mX4_records X.2.2.2.2.1 eσ_2) lvX4_records hdX4_records ⟨Nat.le_trans (Nat.le_of_ble_eq_true rfl) hR.1, Nat.le_trans (Nat.le_of_ble_eq_true rfl) hR.2⟩ rfl hl.1 rfl (Nat.le_of_ble_eq_true rfl) rfl dX4_cancel_65 (fun H locs cells slots I => ?_)
  refine lv_aload_n hx hb dX4_cancel_68 rfl (lv_at hl 0 rfl) ?_
  refine lv_iload_n hx hb dX4_cancel_69 rfl (lv_at hl 2 rfl) ?_
  refine lv_iconst (v := 2) hx hb dX4_cancel_70 (by decide) ?_
  refine lv_iload_n hx hb dX4_cancel_71 rfl (lv_at hl 1 rfl) ?_
  refine lv_imul hx hb dX4_cancel_72 ?_
  refine lv_iconst (v := 1) hx hb dX4_cancel_73 (by decide) ?_
  refine lv_iadd hx hb dX4_cancel_74 ?_
  obtain ⟨σ_4, eσ_4, hf⟩ := ob hf
  refine tw_V none (rs := []) (rest := []) (As := [.int x2, .int (((2 : Int32) * x1) + (1 : Int32))]) X I (mX4_drops X.2.2.2.2.1 eσ_4) lvX4_drops hdX4_drops ⟨Nat.le_trans (Nat.le_of_ble_eq_true rfl) hR.1, Nat.le_trans (Nat.le_of_ble_eq_true rfl) hR.2⟩ rfl hl.1 rfl (Nat.le_of_ble_eq_true rfl) rfl dX4_cancel_75 (fun H locs cells slots I => ?_)
  refine lv_aload_n hx hb dX4_cancel_78 rfl (lv_at hl 0 rfl) ?_
  refine lv_iload_n hx hb dX4_cancel_79 rfl (lv_at hl 2 rfl) ?_
  refine lv_iconst (v := 2) hx hb dX4_cancel_80 (by decide) ?_
  refine lv_iload_n hx hb dX4_cancel_81 rfl (lv_at hl 1 rfl) ?_
  refine lv_imul hx hb dX4_cancel_82 ?_
  obtain ⟨σ_6, eσ_6, hf⟩ := ob hf
  refine tw_V none (rs := []) (rest := []) (As := [.int x2, .int ((2 : Int32) * x1)]) X I (mX4_drops X.2.2.2.2.1 eσ_6) lvX4_drops hdX4_drops ⟨Nat.le_trans (Nat.le_of_ble_eq_true rfl) hR.1, Nat.le_trans (Nat.le_of_ble_eq_true rfl) hR.2⟩ rfl hl.1 rfl (Nat.le_of_ble_eq_true rfl) rfl dX4_cancel_83 (fun H locs cells slots I => ?_)
  refine lv_aload_n hx hb dX4_cancel_86 rfl (lv_at hl 0 rfl) ?_
  refine lv_iload_n hx hb dX4_cancel_87 rfl (lv_at hl 1 rfl) ?_
  refine lv_iconst (v := 0) hx hb dX4_cancel_88 (by decide) ?_
  refine lv_bipush (v := 6) hx hb dX4_cancel_89 (by decide) ?_
  obtain ⟨σ_8, eσ_8, hf⟩ := ob hf
  refine tw_V none (rs := []) (rest := []) (As := [.int x1, .int (0 : Int32), .int (6 : Int32)]) X I (mX4_sets X.2.2.2.2.1 eσ_8) lvX4_sets hdX4_sets ⟨Nat.le_trans (Nat.le_of_ble_eq_true rfl) hR.1, Nat.le_trans (Nat.le_of_ble_eq_true rfl) hR.2⟩ rfl hl.1 rfl (Nat.le_of_ble_eq_true rfl) rfl dX4_cancel_91 (fun H locs cells slots I => ?_)
  refine lv_aload_n hx hb dX4_cancel_94 rfl (lv_at hl 0 rfl) ?_
  refine lv_iload_n hx hb dX4_cancel_95 rfl (lv_at hl 2 rfl) ?_
  refine lv_bipush (v := 11) hx hb dX4_cancel_96 (by decide) ?_
  obtain ⟨v_9, ev_9, hf⟩ := ob hf
  refine tw_V (some (.int v_9)) (rs := [.int v_9]) (rest := []) (As := [.int x2, .int (11 : Int32)]) X I (mX4_in2 X.2.2.2.2.1 ev_9) lvX4_in2 hdX4_in2 ⟨Nat.le_trans (Nat.le_of_ble_eq_true rfl) hR.1, Nat.le_trans (Nat.le_of_ble_eq_true rfl) hR.2⟩ rfl hl.1 rfl (Nat.le_of_ble_eq_true rfl) rfl dX4_cancel_98 (fun H locs cells slots I => ?_)
  cases os hf
  exact r_iret X I dX4_cancel_101
theorem wX4_cancel_0 {E : EV} {l : Launch} {p : Program} {e : Env} {s : State} {m : MethodId} {args : Array Value} {below : List Frame} {meth : Method} {c : Code} {R : Room} {h : Nat} {S : St} {res : (Int32 × TS)} (hR : 2 ≤ R.frames ∧ 48 ≤ R.locals) (X : MX E p s m args meth c cX4_cancel 3 (some .int) RX4 "cancel") (N : Nat) : ∀ (x1 : Int32) (σ : TS) (H : Heap) (locs : List Loc) (cells slots : Nat) (ls : Array Slot), WI E R s (twS h σ S) H locs cells slots → lv_has ls 3 [(0, .ref h), (1, .int x1)] → fX4_cancel N σ x1 = some res → W p l e R s m args below meth c H locs cells slots (MQ below (Qd E R.cells R.slots (some (.int res.1)) (twS h res.2 S)) args s R.cells R.slots (fr E)) (F0 m 0 ls []) := by
  intro x1 σ H locs cells slots ls I hl hf
  obtain ⟨⟨hx, hb, hml, hown, hts⟩, -⟩ := id X
  unfold fX4_cancel at hf
  refine lv_aload_n hx hb dX4_cancel_0 rfl (lv_at hl 0 rfl) ?_
  refine lv_iconst (v := 0) hx hb dX4_cancel_1 (by decide) ?_
  obtain ⟨σ_11, eσ_11, hf⟩ := ol hf
  refine tw_put X I 0 (ty := .int) (by decide) (by decide) rfl q2687 rfl rfl rfl rfl eσ_11 dX4_cancel_2 (fun H locs I => ?_)
  refine lv_aload_n hx hb dX4_cancel_5 rfl (lv_at hl 0 rfl) ?_
  refine lv_iload_n hx hb dX4_cancel_6 rfl (lv_at hl 1 rfl) ?_
  obtain ⟨v_12, ev_12, hf⟩ := ob hf
  refine tw_V (some (.int v_12.1)) (rs := [.int v_12.1]) (rest := []) (As := [.int x1]) X I (mX4_noRide X.2.2.2.2.1 ev_12) lvX4_noRide hdX4_noRide ⟨Nat.le_trans (Nat.le_of_ble_eq_true rfl) hR.1, Nat.le_trans (Nat.le_of_ble_eq_true rfl) hR.2⟩ rfl hl.1 rfl (Nat.le_of_ble_eq_true rfl) rfl dX4_cancel_7 (fun H locs cells slots I => ?_)
  refine lv_if_eq (tgt := 15) hx hb dX4_cancel_10 (by decide) (fun c_10 => ?_) (fun c_10 => ?_)
  · have hf := ip c_10 hf
    refine lv_aload_n hx hb dX4_cancel_15 rfl (lv_at hl 0 rfl) ?_
    refine lv_iload_n hx hb dX4_cancel_16 rfl (lv_at hl 1 rfl) ?_
    refine lv_iconst (v := 0) hx hb dX4_cancel_17 (by decide) ?_
    obtain ⟨v_14, ev_14, hf⟩ := ob hf
    refine tw_V (some (.int v_14)) (rs := [.int v_14]) (rest := []) (As := [.int x1, .int (0 : Int32)]) X I (mX4_of X.2.2.2.2.1 ev_14) lvX4_of hdX4_of ⟨Nat.le_trans (Nat.le_of_ble_eq_true rfl) hR.1, Nat.le_trans (Nat.le_of_ble_eq_true rfl) hR.2⟩ rfl hl.1 rfl (Nat.le_of_ble_eq_true rfl) rfl dX4_cancel_18 (fun H locs cells slots I => ?_)
    refine lv_iconst (v := 1) hx hb dX4_cancel_21 (by decide) ?_
    refine lv_icmp_eq (tgt := 28) hx hb dX4_cancel_22 (by decide) (fun c_22 => ?_) (fun c_22 => ?_)
    · have hf := ip c_22 hf
      refine lv_aload_n hx hb dX4_cancel_28 rfl (lv_at hl 0 rfl) ?_
      refine lv_iload_n hx hb dX4_cancel_29 rfl (lv_at hl 1 rfl) ?_
      refine lv_bipush (v := 7) hx hb dX4_cancel_30 (by decide) ?_
      obtain ⟨v_16, ev_16, hf⟩ := ob hf
      refine tw_V (some (.int v_16)) (rs := [.int v_16]) (rest := []) (As := [.int x1, .int (7 : Int32)]) X I (mX4_of X.2.2.2.2.1 ev_16) lvX4_of hdX4_of ⟨Nat.le_trans (Nat.le_of_ble_eq_true rfl) hR.1, Nat.le_trans (Nat.le_of_ble_eq_true rfl) hR.2⟩ rfl hl.1 rfl (Nat.le_of_ble_eq_true rfl) rfl dX4_cancel_32 (fun H locs cells slots I => ?_)
      refine lv_istore_n (lv' := [(2, .int v_16), (0, .ref h), (1, .int x1)]) hx hb dX4_cancel_35 rfl hl (by decide) rfl (fun ls hl => ?_)
      refine lv_aload_n hx hb dX4_cancel_36 rfl (lv_at hl 1 rfl) ?_
      refine lv_iload_n hx hb dX4_cancel_37 rfl (lv_at hl 0 rfl) ?_
      refine lv_iconst (v := 3) hx hb dX4_cancel_38 (by decide) ?_
      obtain ⟨v_18, ev_18, hf⟩ := ob hf
      refine tw_V (some (.int v_18)) (rs := [.int v_18]) (rest := []) (As := [.int v_16, .int (3 : Int32)]) X I (mX4_in2 X.2.2.2.2.1 ev_18) lvX4_in2 hdX4_in2 ⟨Nat.le_trans (Nat.le_of_ble_eq_true rfl) hR.1, Nat.le_trans (Nat.le_of_ble_eq_true rfl) hR.2⟩ rfl hl.1 rfl (Nat.le_of_ble_eq_true rfl) rfl dX4_cancel_39 (fun H locs cells slots I => ?_)
      refine lv_iconst (v := (-1)) hx hb dX4_cancel_42 (by decide) ?_
      refine lv_icmp_eq (tgt := 64) hx hb dX4_cancel_43 (by decide) (fun c_43 => ?_) (fun c_43 => ?_)
      · have hf := ip c_43 hf
        exact wX4_cancel_64 hR X N _ _ _ _ _ _ _ _ I (lv_sub hl [1, 2, 0] rfl) hf
      · have hf := im c_43 hf
        refine lv_aload_n hx hb dX4_cancel_46 rfl (lv_at hl 1 rfl) ?_
        refine lv_iload_n hx hb dX4_cancel_47 rfl (lv_at hl 0 rfl) ?_
        refine lv_bipush (v := 12) hx hb dX4_cancel_48 (by decide) ?_
        obtain ⟨v_20, ev_20, hf⟩ := ob hf
        refine tw_V (some (.int v_20)) (rs := [.int v_20]) (rest := []) (As := [.int v_16, .int (12 : Int32)]) X I (mX4_in2 X.2.2.2.2.1 ev_20) lvX4_in2 hdX4_in2 ⟨Nat.le_trans (Nat.le_of_ble_eq_true rfl) hR.1, Nat.le_trans (Nat.le_of_ble_eq_true rfl) hR.2⟩ rfl hl.1 rfl (Nat.le_of_ble_eq_true rfl) rfl dX4_cancel_50 (fun H locs cells slots I => ?_)
        refine lv_iconst (v := 2) hx hb dX4_cancel_53 (by decide) ?_
        refine lv_iload_n hx hb dX4_cancel_54 rfl (lv_at hl 2 rfl) ?_
        refine lv_imul hx hb dX4_cancel_55 ?_
        refine lv_iconst (v := 1) hx hb dX4_cancel_56 (by decide) ?_
        refine lv_iadd hx hb dX4_cancel_57 ?_
        refine lv_icmp_ne (tgt := 64) hx hb dX4_cancel_58 (by decide) (fun c_58 => ?_) (fun c_58 => ?_)
        · have hf := im c_58 hf
          exact wX4_cancel_64 hR X N _ _ _ _ _ _ _ _ I (lv_sub hl [1, 2, 0] rfl) hf
        · have hf := ip c_58 hf
          refine lv_bipush (v := (-3)) hx hb dX4_cancel_61 (by decide) ?_
          cases os hf
          exact r_iret X I dX4_cancel_63
    · have hf := im c_22 hf
      refine lv_bipush (v := (-2)) hx hb dX4_cancel_25 (by decide) ?_
      cases os hf
      exact r_iret X I dX4_cancel_27
  · have hf := im c_10 hf
    refine lv_iconst (v := 0) hx hb dX4_cancel_13 (by decide) ?_
    cases os hf
    exact r_iret X I dX4_cancel_14
theorem mX4_cancel {E : EV} {l : Launch} {h : Nat} {S : St} {N : Nat} {σ : TS} {x1 : Int32} {res : (Int32 × TS)} (hE : EK E) (hf : fX4_cancel N σ x1 = some res) : CM E l yX4_cancel (ws_ yX4_cancel cX4_cancel 3 (some .int)) 2 48 [.ref h, .int x1] (twS h σ S) (some (.int res.1)) (twS h res.2 S) := by
  refine CM.of hE (by decide) rfl rfl (Nat.le_of_ble_eq_true rfl) ?_
  intro p e s m below meth c X I ls hl
  exact wX4_cancel_0 ⟨Nat.le_refl _, Nat.le_refl _⟩ X N _ _ _ _ _ _ _ I hl hf
/-! absent(I)I -/
theorem wX4_absent_0 {E : EV} {l : Launch} {p : Program} {e : Env} {s : State} {m : MethodId} {args : Array Value} {below : List Frame} {meth : Method} {c : Code} {R : Room} {h : Nat} {S : St} {res : (Int32 × TS)} (hR : 2 ≤ R.frames ∧ 48 ≤ R.locals) (X : MX E p s m args meth c cX4_absent 2 (some .int) RX4 "absent") (N : Nat) : ∀ (x1 : Int32) (σ : TS) (H : Heap) (locs : List Loc) (cells slots : Nat) (ls : Array Slot), WI E R s (twS h σ S) H locs cells slots → lv_has ls 2 [(0, .ref h), (1, .int x1)] → fX4_absent N σ x1 = some res → W p l e R s m args below meth c H locs cells slots (MQ below (Qd E R.cells R.slots (some (.int res.1)) (twS h res.2 S)) args s R.cells R.slots (fr E)) (F0 m 0 ls []) := by
  intro x1 σ H locs cells slots ls I hl hf
  obtain ⟨⟨hx, hb, hml, hown, hts⟩, -⟩ := id X
  unfold fX4_absent at hf
  refine lv_aload_n hx hb dX4_absent_0 rfl (lv_at hl 0 rfl) ?_
  refine lv_iconst (v := 0) hx hb dX4_absent_1 (by decide) ?_
  obtain ⟨σ_1, eσ_1, hf⟩ := ol hf
  refine tw_put X I 0 (ty := .int) (by decide) (by decide) rfl q2687 rfl rfl rfl rfl eσ_1 dX4_absent_2 (fun H locs I => ?_)
  refine lv_aload_n hx hb dX4_absent_5 rfl (lv_at hl 0 rfl) ?_
  refine lv_iload_n hx hb dX4_absent_6 rfl (lv_at hl 1 rfl) ?_
  obtain ⟨v_2, ev_2, hf⟩ := ob hf
  refine tw_V (some (.int v_2.1)) (rs := [.int v_2.1]) (rest := []) (As := [.int x1]) X I (mX4_noRide X.2.2.2.2.1 ev_2) lvX4_noRide hdX4_noRide ⟨Nat.le_trans (Nat.le_of_ble_eq_true rfl) hR.1, Nat.le_trans (Nat.le_of_ble_eq_true rfl) hR.2⟩ rfl hl.1 rfl (Nat.le_of_ble_eq_true rfl) rfl dX4_absent_7 (fun H locs cells slots I => ?_)
  refine lv_if_eq (tgt := 15) hx hb dX4_absent_10 (by decide) (fun c_10 => ?_) (fun c_10 => ?_)
  · have hf := ip c_10 hf
    refine lv_aload_n hx hb dX4_absent_15 rfl (lv_at hl 0 rfl) ?_
    refine lv_iload_n hx hb dX4_absent_16 rfl (lv_at hl 1 rfl) ?_
    refine lv_iconst (v := 0) hx hb dX4_absent_17 (by decide) ?_
    obtain ⟨v_4, ev_4, hf⟩ := ob hf
    refine tw_V (some (.int v_4)) (rs := [.int v_4]) (rest := []) (As := [.int x1, .int (0 : Int32)]) X I (mX4_of X.2.2.2.2.1 ev_4) lvX4_of hdX4_of ⟨Nat.le_trans (Nat.le_of_ble_eq_true rfl) hR.1, Nat.le_trans (Nat.le_of_ble_eq_true rfl) hR.2⟩ rfl hl.1 rfl (Nat.le_of_ble_eq_true rfl) rfl dX4_absent_18 (fun H locs cells slots I => ?_)
    refine lv_iconst (v := 1) hx hb dX4_absent_21 (by decide) ?_
    refine lv_icmp_ne (tgt := 36) hx hb dX4_absent_22 (by decide) (fun c_22 => ?_) (fun c_22 => ?_)
    · have hf := im c_22 hf
      refine lv_bipush (v := (-2)) hx hb dX4_absent_36 (by decide) ?_
      cases os hf
      exact r_iret X I dX4_absent_38
    · have hf := ip c_22 hf
      refine lv_aload_n hx hb dX4_absent_25 rfl (lv_at hl 0 rfl) ?_
      refine lv_iload_n hx hb dX4_absent_26 rfl (lv_at hl 1 rfl) ?_
      refine lv_bipush (v := 11) hx hb dX4_absent_27 (by decide) ?_
      obtain ⟨v_6, ev_6, hf⟩ := ob hf
      refine tw_V (some (.int v_6)) (rs := [.int v_6]) (rest := []) (As := [.int x1, .int (11 : Int32)]) X I (mX4_of X.2.2.2.2.1 ev_6) lvX4_of hdX4_of ⟨Nat.le_trans (Nat.le_of_ble_eq_true rfl) hR.1, Nat.le_trans (Nat.le_of_ble_eq_true rfl) hR.2⟩ rfl hl.1 rfl (Nat.le_of_ble_eq_true rfl) rfl dX4_absent_29 (fun H locs cells slots I => ?_)
      refine lv_iconst (v := 1) hx hb dX4_absent_32 (by decide) ?_
      refine lv_icmp_ne (tgt := 39) hx hb dX4_absent_33 (by decide) (fun c_33 => ?_) (fun c_33 => ?_)
      · have hf := im c_33 hf
        refine lv_aload_n hx hb dX4_absent_39 rfl (lv_at hl 0 rfl) ?_
        obtain ⟨σ_9, eσ_9, hf⟩ := ob hf
        refine tw_V none (rs := []) (rest := []) (As := []) X I (mX4_records X.2.2.2.2.1 eσ_9) lvX4_records hdX4_records ⟨Nat.le_trans (Nat.le_of_ble_eq_true rfl) hR.1, Nat.le_trans (Nat.le_of_ble_eq_true rfl) hR.2⟩ rfl hl.1 rfl (Nat.le_of_ble_eq_true rfl) rfl dX4_absent_40 (fun H locs cells slots I => ?_)
        refine lv_aload_n hx hb dX4_absent_43 rfl (lv_at hl 0 rfl) ?_
        refine lv_aload_n hx hb dX4_absent_44 rfl (lv_at hl 0 rfl) ?_
        refine lv_iload_n hx hb dX4_absent_45 rfl (lv_at hl 1 rfl) ?_
        refine lv_bipush (v := 7) hx hb dX4_absent_46 (by decide) ?_
        obtain ⟨v_10, ev_10, hf⟩ := ob hf
        refine tw_V (some (.int v_10)) (rs := [.int v_10, .ref h]) (rest := [.ref h]) (As := [.int x1, .int (7 : Int32)]) X I (mX4_of X.2.2.2.2.1 ev_10) lvX4_of hdX4_of ⟨Nat.le_trans (Nat.le_of_ble_eq_true rfl) hR.1, Nat.le_trans (Nat.le_of_ble_eq_true rfl) hR.2⟩ rfl hl.1 rfl (Nat.le_of_ble_eq_true rfl) rfl dX4_absent_48 (fun H locs cells slots I => ?_)
        refine lv_iconst (v := 2) hx hb dX4_absent_51 (by decide) ?_
        refine lv_iload_n hx hb dX4_absent_52 rfl (lv_at hl 1 rfl) ?_
        refine lv_imul hx hb dX4_absent_53 ?_
        obtain ⟨σ_13, eσ_13, hf⟩ := ob hf
        refine tw_V none (rs := []) (rest := []) (As := [.int v_10, .int ((2 : Int32) * x1)]) X I (mX4_drops X.2.2.2.2.1 eσ_13) lvX4_drops hdX4_drops ⟨Nat.le_trans (Nat.le_of_ble_eq_true rfl) hR.1, Nat.le_trans (Nat.le_of_ble_eq_true rfl) hR.2⟩ rfl hl.1 rfl (Nat.le_of_ble_eq_true rfl) rfl dX4_absent_54 (fun H locs cells slots I => ?_)
        refine lv_aload_n hx hb dX4_absent_57 rfl (lv_at hl 0 rfl) ?_
        refine lv_iload_n hx hb dX4_absent_58 rfl (lv_at hl 1 rfl) ?_
        refine lv_bipush (v := 11) hx hb dX4_absent_59 (by decide) ?_
        refine lv_iconst (v := 1) hx hb dX4_absent_61 (by decide) ?_
        obtain ⟨σ_15, eσ_15, hf⟩ := ob hf
        refine tw_V none (rs := []) (rest := []) (As := [.int x1, .int (11 : Int32), .int (1 : Int32)]) X I (mX4_sets X.2.2.2.2.1 eσ_15) lvX4_sets hdX4_sets ⟨Nat.le_trans (Nat.le_of_ble_eq_true rfl) hR.1, Nat.le_trans (Nat.le_of_ble_eq_true rfl) hR.2⟩ rfl hl.1 rfl (Nat.le_of_ble_eq_true rfl) rfl dX4_absent_62 (fun H locs cells slots I => ?_)
        refine lv_aload_n hx hb dX4_absent_65 rfl (lv_at hl 0 rfl) ?_
        refine lv_aload_n hx hb dX4_absent_66 rfl (lv_at hl 0 rfl) ?_
        refine lv_iload_n hx hb dX4_absent_67 rfl (lv_at hl 1 rfl) ?_
        refine lv_bipush (v := 7) hx hb dX4_absent_68 (by decide) ?_
        obtain ⟨v_16, ev_16, hf⟩ := ob hf
        refine tw_V (some (.int v_16)) (rs := [.int v_16, .ref h]) (rest := [.ref h]) (As := [.int x1, .int (7 : Int32)]) X I (mX4_of X.2.2.2.2.1 ev_16) lvX4_of hdX4_of ⟨Nat.le_trans (Nat.le_of_ble_eq_true rfl) hR.1, Nat.le_trans (Nat.le_of_ble_eq_true rfl) hR.2⟩ rfl hl.1 rfl (Nat.le_of_ble_eq_true rfl) rfl dX4_absent_70 (fun H locs cells slots I => ?_)
        refine lv_bipush (v := 11) hx hb dX4_absent_73 (by decide) ?_
        obtain ⟨v_18, ev_18, hf⟩ := ob hf
        refine tw_V (some (.int v_18)) (rs := [.int v_18]) (rest := []) (As := [.int v_16, .int (11 : Int32)]) X I (mX4_in2 X.2.2.2.2.1 ev_18) lvX4_in2 hdX4_in2 ⟨Nat.le_trans (Nat.le_of_ble_eq_true rfl) hR.1, Nat.le_trans (Nat.le_of_ble_eq_true rfl) hR.2⟩ rfl hl.1 rfl (Nat.le_of_ble_eq_true rfl) rfl dX4_absent_75 (fun H locs cells slots I => ?_)
        cases os hf
        exact r_iret X I dX4_absent_78
      · have hf := ip c_33 hf
        refine lv_bipush (v := (-2)) hx hb dX4_absent_36 (by decide) ?_
        cases os hf
        exact r_iret X I dX4_absent_38
  · have hf := im c_10 hf
    refine lv_iconst (v := 0) hx hb dX4_absent_13 (by decide) ?_
    cases os hf
    exact r_iret X I dX4_absent_14
theorem mX4_absent {E : EV} {l : Launch} {h : Nat} {S : St} {N : Nat} {σ : TS} {x1 : Int32} {res : (Int32 × TS)} (hE : EK E) (hf : fX4_absent N σ x1 = some res) : CM E l yX4_absent (ws_ yX4_absent cX4_absent 2 (some .int)) 2 48 [.ref h, .int x1] (twS h σ S) (some (.int res.1)) (twS h res.2 S) := by
  refine CM.of hE (by decide) rfl rfl (Nat.le_of_ble_eq_true rfl) ?_
  intro p e s m below meth c X I ls hl
  exact wX4_absent_0 ⟨Nat.le_refl _, Nat.le_refl _⟩ X N _ _ _ _ _ _ _ I hl hf
/-! grows(III)V -/
theorem lvX4_grows : GoodIn lw_all (wsV RX4 336 RX4 yX4_grows (ws_ yX4_grows cX4_grows 4 none)) := lw_V q3201 q3203 qs96 q120 q3204
theorem hdX4_grows : yX4_grows.cls = RX4 ∧ yX4_grows.cls ≠ "java/lang/invoke/MethodHandle" ∧ yX4_grows.cls ≠ "java/lang/invoke/VarHandle" ∧ (parseMethodDescriptor yX4_grows.desc).map (fun d => d.parameters.length) = some 3 := by decide +kernel
theorem wX4_grows_0 {E : EV} {l : Launch} {p : Program} {e : Env} {s : State} {m : MethodId} {args : Array Value} {below : List Frame} {meth : Method} {c : Code} {R : Room} {h : Nat} {S : St} {res : TS} (hR : 0 ≤ R.frames ∧ 0 ≤ R.locals) (X : MX E p s m args meth c cX4_grows 4 none RX4 "grows") : ∀ (x1 : Int32) (x2 : Int32) (x3 : Int32) (σ : TS) (H : Heap) (locs : List Loc) (cells slots : Nat) (ls : Array Slot), WI E R s (twS h σ S) H locs cells slots → lv_has ls 4 [(0, .ref h), (1, .int x1), (2, .int x2), (3, .int x3)] → fX4_grows σ x1 x2 x3 = some res → W p l e R s m args below meth c H locs cells slots (MQ below (Qd E R.cells R.slots none (twS h res S)) args s R.cells R.slots (fr E)) (F0 m 0 ls []) := by
  intro x1 x2 x3 σ H locs cells slots ls I hl hf
  obtain ⟨⟨hx, hb, hml, hown, hts⟩, -⟩ := id X
  unfold fX4_grows at hf
  refine lv_aload_n hx hb dX4_grows_0 rfl (lv_at hl 0 rfl) ?_
  refine tw_get X I 1 (v := .ref (h + 1)) (by decide) q2688 rfl dX4_grows_1 ?_
  refine lv_bipush (v := 13) hx hb dX4_grows_4 (by decide) ?_
  refine lv_bipush (v := 40) hx hb dX4_grows_6 (by decide) ?_
  refine lv_iload_n hx hb dX4_grows_8 rfl (lv_at hl 1 rfl) ?_
  refine lv_imul hx hb dX4_grows_9 ?_
  refine lv_iadd hx hb dX4_grows_10 ?_
  refine lv_iload_n hx hb dX4_grows_11 rfl (lv_at hl 2 rfl) ?_
  refine lv_iadd hx hb dX4_grows_12 ?_
  refine lv_dup2_11 hx hb dX4_grows_13 rfl rfl ?_
  obtain ⟨v_1, ev_1, hf⟩ := ob hf
  refine tw_ald X I 1 (by decide) (by decide) (by decide) ev_1 dX4_grows_14 ?_
  refine lv_iload_n hx hb dX4_grows_15 rfl (lv_at hl 3 rfl) ?_
  refine lv_iadd hx hb dX4_grows_16 ?_
  obtain ⟨σ_2, eσ_2, hf⟩ := ob hf
  refine tw_ast X I 1 (by decide) (by decide) (by decide) eσ_2 dX4_grows_17 (fun H locs I => ?_)
  cases os hf
  exact r_vret X I dX4_grows_18
theorem mX4_grows {E : EV} {l : Launch} {h : Nat} {S : St} {σ : TS} {x1 : Int32} {x2 : Int32} {x3 : Int32} {res : TS} (hE : EK E) (hf : fX4_grows σ x1 x2 x3 = some res) : CM E l yX4_grows (ws_ yX4_grows cX4_grows 4 none) 0 0 [.ref h, .int x1, .int x2, .int x3] (twS h σ S) none (twS h res S) := by
  refine CM.of hE (by decide) rfl rfl (Nat.le_of_ble_eq_true rfl) ?_
  intro p e s m below meth c X I ls hl
  exact wX4_grows_0 ⟨Nat.le_refl _, Nat.le_refl _⟩ X _ _ _ _ _ _ _ _ _ I hl hf
/-! pays(II)V -/
theorem lvX4_pays : GoodIn lw_all (wsV RX4 349 RX4 yX4_pays (ws_ yX4_pays cX4_pays 7 none)) := lw_V q3197 q3199 qs95 q120 q3200
theorem hdX4_pays : yX4_pays.cls = RX4 ∧ yX4_pays.cls ≠ "java/lang/invoke/MethodHandle" ∧ yX4_pays.cls ≠ "java/lang/invoke/VarHandle" ∧ (parseMethodDescriptor yX4_pays.desc).map (fun d => d.parameters.length) = some 2 := by decide +kernel
theorem wX4_pays_70 {E : EV} {l : Launch} {p : Program} {e : Env} {s : State} {m : MethodId} {args : Array Value} {below : List Frame} {meth : Method} {c : Code} {R : Room} {h : Nat} {S : St} {res : TS} (hR : 3 ≤ R.frames ∧ 65 ≤ R.locals) (X : MX E p s m args meth c cX4_pays 7 none RX4 "pays") (N : Nat) : ∀ (n : Nat) (x1 : Int32) (x3 : Int32) (x4 : Int32) (x5 : Int32) (σ : TS) (H : Heap) (locs : List Loc) (cells slots : Nat) (ls : Array Slot), WI E R s (twS h σ S) H locs cells slots → lv_has ls 7 [(0, .ref h), (1, .int x1), (3, .int x3), (4, .int x4), (5, .int x5)] → fX4_pays_70 N n x1 x3 x4 x5 σ = some res → W p l e R s m args below meth c H locs cells slots (MQ below (Qd E R.cells R.slots none (twS h res S)) args s R.cells R.slots (fr E)) (F0 m 70 ls []) := by
  intro n
  induction n with
  | zero => intro x1 x3 x4 x5 σ H locs cells slots ls I hl hf; exact nomatch (show none = some res from hf)
  | succ n ih =>
    intro x1 x3 x4 x5 σ H locs cells slots ls I hl hf
    obtain ⟨⟨hx, hb, hml, hown, hts⟩, -⟩ := id X
    rw [fX4_pays_70.eq_2] at hf
    refine lv_iload hx hb dX4_pays_70 (lv_at hl 4 rfl) ?_
    refine lv_iload_n hx hb dX4_pays_72 rfl (lv_at hl 2 rfl) ?_
    refine lv_icmp_ge (tgt := 119) hx hb dX4_pays_73 (by decide) (fun c_73 => ?_) (fun c_73 => ?_)
    · have hf := ip c_73 hf
      cases os hf
      exact r_vret X I dX4_pays_119
    · have hf := im c_73 hf
      refine lv_aload_n hx hb dX4_pays_76 rfl (lv_at hl 0 rfl) ?_
      refine lv_iload_n hx hb dX4_pays_77 rfl (lv_at hl 1 rfl) ?_
      refine lv_bipush (v := 25) hx hb dX4_pays_78 (by decide) ?_
      refine lv_iload hx hb dX4_pays_80 (lv_at hl 4 rfl) ?_
      refine lv_iadd hx hb dX4_pays_82 ?_
      obtain ⟨v_1, ev_1, hf⟩ := ob hf
      refine tw_V (some (.int v_1)) (rs := [.int v_1]) (rest := []) (As := [.int x1, .int ((25 : Int32) + x5)]) X I (mX4_in2 X.2.2.2.2.1 ev_1) lvX4_in2 hdX4_in2 ⟨Nat.le_trans (Nat.le_of_ble_eq_true rfl) hR.1, Nat.le_trans (Nat.le_of_ble_eq_true rfl) hR.2⟩ rfl hl.1 rfl (Nat.le_of_ble_eq_true rfl) rfl dX4_pays_83 (fun H locs cells slots I => ?_)
      refine lv_istore (lv' := [(6, .int v_1), (0, .ref h), (1, .int x1), (3, .int x3), (4, .int x4), (5, .int x5)]) hx hb dX4_pays_86 hl (by decide) rfl (fun ls hl => ?_)
      refine lv_aload_n hx hb dX4_pays_88 rfl (lv_at hl 1 rfl) ?_
      refine lv_iload hx hb dX4_pays_89 (lv_at hl 0 rfl) ?_
      refine lv_bipush (v := 10) hx hb dX4_pays_91 (by decide) ?_
      refine lv_aload_n hx hb dX4_pays_93 rfl (lv_at hl 1 rfl) ?_
      refine lv_iload hx hb dX4_pays_94 (lv_at hl 0 rfl) ?_
      refine lv_bipush (v := 10) hx hb dX4_pays_96 (by decide) ?_
      obtain ⟨v_3, ev_3, hf⟩ := ob hf
      refine tw_V (some (.int v_3)) (rs := [.int v_3, .int (10 : Int32), .int v_1, .ref h]) (rest := [.int (10 : Int32), .int v_1, .ref h]) (As := [.int v_1, .int (10 : Int32)]) X I (mX4_of X.2.2.2.2.1 ev_3) lvX4_of hdX4_of ⟨Nat.le_trans (Nat.le_of_ble_eq_true rfl) hR.1, Nat.le_trans (Nat.le_of_ble_eq_true rfl) hR.2⟩ rfl hl.1 rfl (Nat.le_of_ble_eq_true rfl) rfl dX4_pays_98 (fun H locs cells slots I => ?_)
      refine lv_iload hx hb dX4_pays_101 (lv_at hl 4 rfl) ?_
      refine lv_iload_n hx hb dX4_pays_103 rfl (lv_at hl 3 rfl) ?_
      refine lv_iload hx hb dX4_pays_104 (lv_at hl 5 rfl) ?_
      obtain ⟨v_5, ev_5, hf⟩ := ob hf
      refine tw_S (some (.int v_5)) (rs := [.int v_5, .int v_3, .int (10 : Int32), .int v_1, .ref h]) (rest := [.int v_3, .int (10 : Int32), .int v_1, .ref h]) (As := [.int x4, .int x3, .int x5]) X I (mX4_partOf X.2.2.2.2.1 ev_5) lvX4_partOf hdX4_partOf ⟨Nat.le_trans (Nat.le_of_ble_eq_true rfl) hR.1, Nat.le_trans (Nat.le_of_ble_eq_true rfl) hR.2⟩ rfl hl.1 rfl (Nat.le_of_ble_eq_true rfl) rfl dX4_pays_106 (fun H locs cells slots I => ?_)
      refine lv_iadd hx hb dX4_pays_109 ?_
      obtain ⟨σ_8, eσ_8, hf⟩ := ob hf
      refine tw_V none (rs := []) (rest := []) (As := [.int v_1, .int (10 : Int32), .int (v_3 + v_5)]) X I (mX4_sets X.2.2.2.2.1 eσ_8) lvX4_sets hdX4_sets ⟨Nat.le_trans (Nat.le_of_ble_eq_true rfl) hR.1, Nat.le_trans (Nat.le_of_ble_eq_true rfl) hR.2⟩ rfl hl.1 rfl (Nat.le_of_ble_eq_true rfl) rfl dX4_pays_110 (fun H locs cells slots I => ?_)
      obtain ⟨x5_9, ex5_9, hf⟩ := ol hf
      refine lv_iinc (v := x5_9) (lv' := [(5, .int x5_9), (6, .int v_1), (0, .ref h), (1, .int x1), (3, .int x3), (4, .int x4)]) hx hb dX4_pays_113 hl (k := 5) rfl ex5_9 (by decide) rfl (fun ls hl => ?_)
      refine lv_goto (tgt := 70) hx hb dX4_pays_116 (by decide) ?_
      exact ih _ _ _ _ _ _ _ _ _ _ I (lv_sub hl [2, 3, 4, 5, 0] rfl) hf
theorem wX4_pays_42 {E : EV} {l : Launch} {p : Program} {e : Env} {s : State} {m : MethodId} {args : Array Value} {below : List Frame} {meth : Method} {c : Code} {R : Room} {h : Nat} {S : St} {res : TS} (hR : 3 ≤ R.frames ∧ 65 ≤ R.locals) (X : MX E p s m args meth c cX4_pays 7 none RX4 "pays") (N : Nat) : ∀ (x1 : Int32) (x2 : Int32) (x3 : Int32) (σ : TS) (H : Heap) (locs : List Loc) (cells slots : Nat) (ls : Array Slot), WI E R s (twS h σ S) H locs cells slots → lv_has ls 7 [(0, .ref h), (1, .int x1), (2, .int x2), (3, .int x3)] → fX4_pays_42 N x1 x2 x3 σ = some res → W p l e R s m args below meth c H locs cells slots (MQ below (Qd E R.cells R.slots none (twS h res S)) args s R.cells R.slots (fr E)) (F0 m 42 ls []) := by
  intro x1 x2 x3 σ H locs cells slots ls I hl hf
  obtain ⟨⟨hx, hb, hml, hown, hts⟩, -⟩ := id X
  unfold fX4_pays_42 at hf
  refine lv_aload_n hx hb dX4_pays_42 rfl (lv_at hl 0 rfl) ?_
  refine lv_iload_n hx hb dX4_pays_43 rfl (lv_at hl 2 rfl) ?_
  refine lv_iload_n hx hb dX4_pays_44 rfl (lv_at hl 3 rfl) ?_
  obtain ⟨v_10, ev_10, hf⟩ := ob hf
  refine tw_V (some (.int v_10)) (rs := [.int v_10]) (rest := []) (As := [.int x2, .int x3]) X I (mX4_amountFor X.2.2.2.2.1 ev_10) lvX4_amountFor hdX4_amountFor ⟨Nat.le_trans (Nat.le_of_ble_eq_true rfl) hR.1, Nat.le_trans (Nat.le_of_ble_eq_true rfl) hR.2⟩ rfl hl.1 rfl (Nat.le_of_ble_eq_true rfl) rfl dX4_pays_45 (fun H locs cells slots I => ?_)
  refine lv_istore (lv' := [(4, .int v_10), (0, .ref h), (1, .int x1), (2, .int x2), (3, .int x3)]) hx hb dX4_pays_48 hl (by decide) rfl (fun ls hl => ?_)
  refine lv_aload_n hx hb dX4_pays_50 rfl (lv_at hl 1 rfl) ?_
  refine lv_iload_n hx hb dX4_pays_51 rfl (lv_at hl 2 rfl) ?_
  refine lv_bipush (v := 10) hx hb dX4_pays_52 (by decide) ?_
  refine lv_iload hx hb dX4_pays_54 (lv_at hl 0 rfl) ?_
  obtain ⟨σ_13, eσ_13, hf⟩ := ob hf
  refine tw_V none (rs := []) (rest := []) (As := [.int x1, .int (10 : Int32), .int v_10]) X I (mX4_grows X.2.2.2.2.1 eσ_13) lvX4_grows hdX4_grows ⟨Nat.le_trans (Nat.le_of_ble_eq_true rfl) hR.1, Nat.le_trans (Nat.le_of_ble_eq_true rfl) hR.2⟩ rfl hl.1 rfl (Nat.le_of_ble_eq_true rfl) rfl dX4_pays_56 (fun H locs cells slots I => ?_)
  refine lv_aload_n hx hb dX4_pays_59 rfl (lv_at hl 1 rfl) ?_
  refine lv_iload_n hx hb dX4_pays_60 rfl (lv_at hl 2 rfl) ?_
  refine lv_iconst (v := 5) hx hb dX4_pays_61 (by decide) ?_
  refine lv_iload hx hb dX4_pays_62 (lv_at hl 0 rfl) ?_
  obtain ⟨σ_15, eσ_15, hf⟩ := ob hf
  refine tw_V none (rs := []) (rest := []) (As := [.int x1, .int (5 : Int32), .int v_10]) X I (mX4_grows X.2.2.2.2.1 eσ_15) lvX4_grows hdX4_grows ⟨Nat.le_trans (Nat.le_of_ble_eq_true rfl) hR.1, Nat.le_trans (Nat.le_of_ble_eq_true rfl) hR.2⟩ rfl hl.1 rfl (Nat.le_of_ble_eq_true rfl) rfl dX4_pays_64 (fun H locs cells slots I => ?_)
  refine lv_iconst (v := 0) hx hb dX4_pays_67 (by decide) ?_
  refine lv_istore (lv' := [(5, .int (0 : Int32)), (4, .int v_10), (0, .ref h), (1, .int x1), (2, .int x2), (3, .int x3)]) hx hb dX4_pays_68 hl (by decide) rfl (fun ls hl => ?_)
  exact wX4_pays_70 hR X N N _ _ _ _ _ _ _ _ _ _ I (lv_sub hl [2, 3, 5, 1, 0] rfl) hf
theorem wX4_pays_0 {E : EV} {l : Launch} {p : Program} {e : Env} {s : State} {m : MethodId} {args : Array Value} {below : List Frame} {meth : Method} {c : Code} {R : Room} {h : Nat} {S : St} {res : TS} (hR : 3 ≤ R.frames ∧ 65 ≤ R.locals) (X : MX E p s m args meth c cX4_pays 7 none RX4 "pays") (N : Nat) : ∀ (x1 : Int32) (x2 : Int32) (σ : TS) (H : Heap) (locs : List Loc) (cells slots : Nat) (ls : Array Slot), WI E R s (twS h σ S) H locs cells slots → lv_has ls 7 [(0, .ref h), (1, .int x1), (2, .int x2)] → fX4_pays N σ x1 x2 = some res → W p l e R s m args below meth c H locs cells slots (MQ below (Qd E R.cells R.slots none (twS h res S)) args s R.cells R.slots (fr E)) (F0 m 0 ls []) := by
  intro x1 x2 σ H locs cells slots ls I hl hf
  obtain ⟨⟨hx, hb, hml, hown, hts⟩, -⟩ := id X
  unfold fX4_pays at hf
  refine lv_aload_n hx hb dX4_pays_0 rfl (lv_at hl 0 rfl) ?_
  refine lv_iload_n hx hb dX4_pays_1 rfl (lv_at hl 1 rfl) ?_
  refine lv_bipush (v := 24) hx hb dX4_pays_2 (by decide) ?_
  obtain ⟨v_16, ev_16, hf⟩ := ob hf
  refine tw_V (some (.int v_16)) (rs := [.int v_16]) (rest := []) (As := [.int x1, .int (24 : Int32)]) X I (mX4_in2 X.2.2.2.2.1 ev_16) lvX4_in2 hdX4_in2 ⟨Nat.le_trans (Nat.le_of_ble_eq_true rfl) hR.1, Nat.le_trans (Nat.le_of_ble_eq_true rfl) hR.2⟩ rfl hl.1 rfl (Nat.le_of_ble_eq_true rfl) rfl dX4_pays_4 (fun H locs cells slots I => ?_)
  refine lv_istore_n (lv' := [(3, .int v_16), (0, .ref h), (1, .int x1), (2, .int x2)]) hx hb dX4_pays_7 rfl hl (by decide) rfl (fun ls hl => ?_)
  refine lv_aload_n hx hb dX4_pays_8 rfl (lv_at hl 1 rfl) ?_
  refine lv_iload_n hx hb dX4_pays_9 rfl (lv_at hl 2 rfl) ?_
  refine lv_bipush (v := 7) hx hb dX4_pays_10 (by decide) ?_
  refine lv_iload_n hx hb dX4_pays_12 rfl (lv_at hl 3 rfl) ?_
  obtain ⟨σ_19, eσ_19, hf⟩ := ob hf
  refine tw_V none (rs := []) (rest := []) (As := [.int x1, .int (7 : Int32), .int x2]) X I (mX4_grows X.2.2.2.2.1 eσ_19) lvX4_grows hdX4_grows ⟨Nat.le_trans (Nat.le_of_ble_eq_true rfl) hR.1, Nat.le_trans (Nat.le_of_ble_eq_true rfl) hR.2⟩ rfl hl.1 rfl (Nat.le_of_ble_eq_true rfl) rfl dX4_pays_13 (fun H locs cells slots I => ?_)
  refine lv_iload_n hx hb dX4_pays_16 rfl (lv_at hl 0 rfl) ?_
  refine lv_if_ne (tgt := 21) hx hb dX4_pays_17 (by decide) (fun c_17 => ?_) (fun c_17 => ?_)
  · have hf := im c_17 hf
    refine lv_aload_n hx hb dX4_pays_21 rfl (lv_at hl 1 rfl) ?_
    refine lv_iload_n hx hb dX4_pays_22 rfl (lv_at hl 2 rfl) ?_
    refine lv_bipush (v := 8) hx hb dX4_pays_23 (by decide) ?_
    refine lv_iload_n hx hb dX4_pays_25 rfl (lv_at hl 3 rfl) ?_
    obtain ⟨σ_21, eσ_21, hf⟩ := ob hf
    refine tw_V none (rs := []) (rest := []) (As := [.int x1, .int (8 : Int32), .int x2]) X I (mX4_grows X.2.2.2.2.1 eσ_21) lvX4_grows hdX4_grows ⟨Nat.le_trans (Nat.le_of_ble_eq_true rfl) hR.1, Nat.le_trans (Nat.le_of_ble_eq_true rfl) hR.2⟩ rfl hl.1 rfl (Nat.le_of_ble_eq_true rfl) rfl dX4_pays_26 (fun H locs cells slots I => ?_)
    refine lv_iload_n hx hb dX4_pays_29 rfl (lv_at hl 0 rfl) ?_
    refine lv_iconst (v := 1) hx hb dX4_pays_30 (by decide) ?_
    refine lv_icmp_le (tgt := 42) hx hb dX4_pays_31 (by decide) (fun c_31 => ?_) (fun c_31 => ?_)
    · have hf := ip c_31 hf
      exact wX4_pays_42 hR X N _ _ _ _ _ _ _ _ _ I (lv_sub hl [1, 2, 3, 0] rfl) hf
    · have hf := im c_31 hf
      refine lv_aload_n hx hb dX4_pays_34 rfl (lv_at hl 1 rfl) ?_
      refine lv_iload_n hx hb dX4_pays_35 rfl (lv_at hl 2 rfl) ?_
      refine lv_bipush (v := 9) hx hb dX4_pays_36 (by decide) ?_
      refine lv_iload_n hx hb dX4_pays_38 rfl (lv_at hl 3 rfl) ?_
      obtain ⟨σ_23, eσ_23, hf⟩ := ob hf
      refine tw_V none (rs := []) (rest := []) (As := [.int x1, .int (9 : Int32), .int x2]) X I (mX4_grows X.2.2.2.2.1 eσ_23) lvX4_grows hdX4_grows ⟨Nat.le_trans (Nat.le_of_ble_eq_true rfl) hR.1, Nat.le_trans (Nat.le_of_ble_eq_true rfl) hR.2⟩ rfl hl.1 rfl (Nat.le_of_ble_eq_true rfl) rfl dX4_pays_39 (fun H locs cells slots I => ?_)
      exact wX4_pays_42 hR X N _ _ _ _ _ _ _ _ _ I (lv_sub hl [1, 2, 3, 0] rfl) hf
  · have hf := ip c_17 hf
    cases os hf
    exact r_vret X I dX4_pays_20
theorem mX4_pays {E : EV} {l : Launch} {h : Nat} {S : St} {N : Nat} {σ : TS} {x1 : Int32} {x2 : Int32} {res : TS} (hE : EK E) (hf : fX4_pays N σ x1 x2 = some res) : CM E l yX4_pays (ws_ yX4_pays cX4_pays 7 none) 3 65 [.ref h, .int x1, .int x2] (twS h σ S) none (twS h res S) := by
  refine CM.of hE (by decide) rfl rfl (Nat.le_of_ble_eq_true rfl) ?_
  intro p e s m below meth c X I ls hl
  exact wX4_pays_0 ⟨Nat.le_refl _, Nat.le_refl _⟩ X N _ _ _ _ _ _ _ _ I hl hf
/-! getsOff(II)V -/
theorem lvX4_getsOff : GoodIn lw_all (wsV RX4 353 RX4 yX4_getsOff (ws_ yX4_getsOff cX4_getsOff 6 none)) := lw_V q3205 q3207 qs97 q120 q3208
theorem hdX4_getsOff : yX4_getsOff.cls = RX4 ∧ yX4_getsOff.cls ≠ "java/lang/invoke/MethodHandle" ∧ yX4_getsOff.cls ≠ "java/lang/invoke/VarHandle" ∧ (parseMethodDescriptor yX4_getsOff.desc).map (fun d => d.parameters.length) = some 2 := by decide +kernel
theorem wX4_getsOff_52 {E : EV} {l : Launch} {p : Program} {e : Env} {s : State} {m : MethodId} {args : Array Value} {below : List Frame} {meth : Method} {c : Code} {R : Room} {h : Nat} {S : St} {res : TS} (hR : 1 ≤ R.frames ∧ 23 ≤ R.locals) (X : MX E p s m args meth c cX4_getsOff 6 none RX4 "getsOff") (N : Nat) (r5 : Int32 → Int32 → Int32 → Int32 → TS → Option TS) (hr5 : ∀ (x1 : Int32) (x2 : Int32) (x3 : Int32) (x4 : Int32) (σ : TS) (H : Heap) (locs : List Loc) (cells slots : Nat) (ls : Array Slot), WI E R s (twS h σ S) H locs cells slots → lv_has ls 6 [(0, .ref h), (1, .int x1), (2, .int x2), (3, .int x3), (4, .int x4)] → r5 x1 x2 x3 x4 σ = some res → W p l e R s m args below meth c H locs cells slots (MQ below (Qd E R.cells R.slots none (twS h res S)) args s R.cells R.slots (fr E)) (F0 m 5 ls [])) : ∀ (x1 : Int32) (x2 : Int32) (x3 : Int32) (x4 : Int32) (σ : TS) (H : Heap) (locs : List Loc) (cells slots : Nat) (ls : Array Slot), WI E R s (twS h σ S) H locs cells slots → lv_has ls 6 [(0, .ref h), (1, .int x1), (2, .int x2), (3, .int x3), (4, .int x4)] → fX4_getsOff_52 N r5 x1 x2 x3 x4 σ = some res → W p l e R s m args below meth c H locs cells slots (MQ below (Qd E R.cells R.slots none (twS h res S)) args s R.cells R.slots (fr E)) (F0 m 52 ls []) := by
  intro x1 x2 x3 x4 σ H locs cells slots ls I hl hf
  obtain ⟨⟨hx, hb, hml, hown, hts⟩, -⟩ := id X
  unfold fX4_getsOff_52 at hf
  obtain ⟨x4_1, ex4_1, hf⟩ := ol hf
  refine lv_iinc (v := x4_1) (lv' := [(4, .int x4_1), (0, .ref h), (1, .int x1), (2, .int x2), (3, .int x3)]) hx hb dX4_getsOff_52 hl (k := 4) rfl ex4_1 (by decide) rfl (fun ls hl => ?_)
  refine lv_goto (tgt := 5) hx hb dX4_getsOff_55 (by decide) ?_
  exact hr5 _ _ _ _ _ _ _ _ _ _ I (lv_sub hl [1, 2, 3, 4, 0] rfl) hf
theorem wX4_getsOff_5 {E : EV} {l : Launch} {p : Program} {e : Env} {s : State} {m : MethodId} {args : Array Value} {below : List Frame} {meth : Method} {c : Code} {R : Room} {h : Nat} {S : St} {res : TS} (hR : 1 ≤ R.frames ∧ 23 ≤ R.locals) (X : MX E p s m args meth c cX4_getsOff 6 none RX4 "getsOff") (N : Nat) : ∀ (n : Nat) (x1 : Int32) (x2 : Int32) (x3 : Int32) (x4 : Int32) (σ : TS) (H : Heap) (locs : List Loc) (cells slots : Nat) (ls : Array Slot), WI E R s (twS h σ S) H locs cells slots → lv_has ls 6 [(0, .ref h), (1, .int x1), (2, .int x2), (3, .int x3), (4, .int x4)] → fX4_getsOff_5 N n x1 x2 x3 x4 σ = some res → W p l e R s m args below meth c H locs cells slots (MQ below (Qd E R.cells R.slots none (twS h res S)) args s R.cells R.slots (fr E)) (F0 m 5 ls []) := by
  intro n
  induction n with
  | zero => intro x1 x2 x3 x4 σ H locs cells slots ls I hl hf; exact nomatch (show none = some res from hf)
  | succ n ih =>
    intro x1 x2 x3 x4 σ H locs cells slots ls I hl hf
    obtain ⟨⟨hx, hb, hml, hown, hts⟩, -⟩ := id X
    rw [fX4_getsOff_5.eq_2] at hf
    refine lv_iload hx hb dX4_getsOff_5 (lv_at hl 4 rfl) ?_
    refine lv_aload_n hx hb dX4_getsOff_7 rfl (lv_at hl 0 rfl) ?_
    refine lv_iload_n hx hb dX4_getsOff_8 rfl (lv_at hl 1 rfl) ?_
    refine lv_bipush (v := 24) hx hb dX4_getsOff_9 (by decide) ?_
    obtain ⟨v_2, ev_2, hf⟩ := ob hf
    refine tw_V (some (.int v_2)) (rs := [.int v_2, .int x4]) (rest := [.int x4]) (As := [.int x1, .int (24 : Int32)]) X I (mX4_in2 X.2.2.2.2.1 ev_2) lvX4_in2 hdX4_in2 ⟨Nat.le_trans (Nat.le_of_ble_eq_true rfl) hR.1, Nat.le_trans (Nat.le_of_ble_eq_true rfl) hR.2⟩ rfl hl.1 rfl (Nat.le_of_ble_eq_true rfl) rfl dX4_getsOff_11 (fun H locs cells slots I => ?_)
    refine lv_icmp_ge (tgt := 58) hx hb dX4_getsOff_14 (by decide) (fun c_14 => ?_) (fun c_14 => ?_)
    · have hf := ip c_14 hf
      refine lv_aload_n hx hb dX4_getsOff_58 rfl (lv_at hl 0 rfl) ?_
      refine lv_iload_n hx hb dX4_getsOff_59 rfl (lv_at hl 1 rfl) ?_
      refine lv_bipush (v := 24) hx hb dX4_getsOff_60 (by decide) ?_
      refine lv_iload_n hx hb dX4_getsOff_62 rfl (lv_at hl 3 rfl) ?_
      obtain ⟨σ_5, eσ_5, hf⟩ := ob hf
      refine tw_V none (rs := []) (rest := []) (As := [.int x1, .int (24 : Int32), .int x3]) X I (mX4_lays2 X.2.2.2.2.1 eσ_5) lvX4_lays2 hdX4_lays2 ⟨Nat.le_trans (Nat.le_of_ble_eq_true rfl) hR.1, Nat.le_trans (Nat.le_of_ble_eq_true rfl) hR.2⟩ rfl hl.1 rfl (Nat.le_of_ble_eq_true rfl) rfl dX4_getsOff_63 (fun H locs cells slots I => ?_)
      cases os hf
      exact r_vret X I dX4_getsOff_66
    · have hf := im c_14 hf
      refine lv_aload_n hx hb dX4_getsOff_17 rfl (lv_at hl 0 rfl) ?_
      refine lv_iload_n hx hb dX4_getsOff_18 rfl (lv_at hl 1 rfl) ?_
      refine lv_bipush (v := 25) hx hb dX4_getsOff_19 (by decide) ?_
      refine lv_iload hx hb dX4_getsOff_21 (lv_at hl 4 rfl) ?_
      refine lv_iadd hx hb dX4_getsOff_23 ?_
      obtain ⟨v_6, ev_6, hf⟩ := ob hf
      refine tw_V (some (.int v_6)) (rs := [.int v_6]) (rest := []) (As := [.int x1, .int ((25 : Int32) + x4)]) X I (mX4_in2 X.2.2.2.2.1 ev_6) lvX4_in2 hdX4_in2 ⟨Nat.le_trans (Nat.le_of_ble_eq_true rfl) hR.1, Nat.le_trans (Nat.le_of_ble_eq_true rfl) hR.2⟩ rfl hl.1 rfl (Nat.le_of_ble_eq_true rfl) rfl dX4_getsOff_24 (fun H locs cells slots I => ?_)
      refine lv_istore (lv' := [(5, .int v_6), (0, .ref h), (1, .int x1), (2, .int x2), (3, .int x3), (4, .int x4)]) hx hb dX4_getsOff_27 hl (by decide) rfl (fun ls hl => ?_)
      refine lv_iload hx hb dX4_getsOff_29 (lv_at hl 0 rfl) ?_
      refine lv_iload_n hx hb dX4_getsOff_31 rfl (lv_at hl 3 rfl) ?_
      refine lv_icmp_ne (tgt := 38) hx hb dX4_getsOff_32 (by decide) (fun c_32 => ?_) (fun c_32 => ?_)
      · have hf := im c_32 hf
        refine lv_aload_n hx hb dX4_getsOff_38 rfl (lv_at hl 1 rfl) ?_
        refine lv_iload_n hx hb dX4_getsOff_39 rfl (lv_at hl 2 rfl) ?_
        refine lv_bipush (v := 25) hx hb dX4_getsOff_40 (by decide) ?_
        refine lv_iload_n hx hb dX4_getsOff_42 rfl (lv_at hl 4 rfl) ?_
        refine lv_iadd hx hb dX4_getsOff_43 ?_
        refine lv_iload hx hb dX4_getsOff_44 (lv_at hl 0 rfl) ?_
        obtain ⟨σ_9, eσ_9, hf⟩ := ob hf
        refine tw_V none (rs := []) (rest := []) (As := [.int x1, .int ((25 : Int32) + x3), .int v_6]) X I (mX4_lays2 X.2.2.2.2.1 eσ_9) lvX4_lays2 hdX4_lays2 ⟨Nat.le_trans (Nat.le_of_ble_eq_true rfl) hR.1, Nat.le_trans (Nat.le_of_ble_eq_true rfl) hR.2⟩ rfl hl.1 rfl (Nat.le_of_ble_eq_true rfl) rfl dX4_getsOff_46 (fun H locs cells slots I => ?_)
        obtain ⟨x3_10, ex3_10, hf⟩ := ol hf
        refine lv_iinc (v := x3_10) (lv' := [(3, .int x3_10), (5, .int v_6), (0, .ref h), (1, .int x1), (2, .int x2), (4, .int x4)]) hx hb dX4_getsOff_49 hl (k := 4) rfl ex3_10 (by decide) rfl (fun ls hl => ?_)
        exact wX4_getsOff_52 hR X N (fX4_getsOff_5 N n) ih _ _ _ _ _ _ _ _ _ _ I (lv_sub hl [2, 3, 4, 0, 5] rfl) hf
      · have hf := ip c_32 hf
        refine lv_goto (tgt := 52) hx hb dX4_getsOff_35 (by decide) ?_
        exact wX4_getsOff_52 hR X N (fX4_getsOff_5 N n) ih _ _ _ _ _ _ _ _ _ _ I (lv_sub hl [1, 2, 3, 4, 5] rfl) hf
theorem wX4_getsOff_0 {E : EV} {l : Launch} {p : Program} {e : Env} {s : State} {m : MethodId} {args : Array Value} {below : List Frame} {meth : Method} {c : Code} {R : Room} {h : Nat} {S : St} {res : TS} (hR : 1 ≤ R.frames ∧ 23 ≤ R.locals) (X : MX E p s m args meth c cX4_getsOff 6 none RX4 "getsOff") (N : Nat) : ∀ (x1 : Int32) (x2 : Int32) (σ : TS) (H : Heap) (locs : List Loc) (cells slots : Nat) (ls : Array Slot), WI E R s (twS h σ S) H locs cells slots → lv_has ls 6 [(0, .ref h), (1, .int x1), (2, .int x2)] → fX4_getsOff N σ x1 x2 = some res → W p l e R s m args below meth c H locs cells slots (MQ below (Qd E R.cells R.slots none (twS h res S)) args s R.cells R.slots (fr E)) (F0 m 0 ls []) := by
  intro x1 x2 σ H locs cells slots ls I hl hf
  obtain ⟨⟨hx, hb, hml, hown, hts⟩, -⟩ := id X
  unfold fX4_getsOff at hf
  refine lv_iconst (v := 0) hx hb dX4_getsOff_0 (by decide) ?_
  refine lv_istore_n (lv' := [(3, .int (0 : Int32)), (0, .ref h), (1, .int x1), (2, .int x2)]) hx hb dX4_getsOff_1 rfl hl (by decide) rfl (fun ls hl => ?_)
  refine lv_iconst (v := 0) hx hb dX4_getsOff_2 (by decide) ?_
  refine lv_istore (lv' := [(4, .int (0 : Int32)), (3, .int (0 : Int32)), (0, .ref h), (1, .int x1), (2, .int x2)]) hx hb dX4_getsOff_3 hl (by decide) rfl (fun ls hl => ?_)
  exact wX4_getsOff_5 hR X N N _ _ _ _ _ _ _ _ _ _ I (lv_sub hl [2, 3, 4, 1, 0] rfl) hf
theorem mX4_getsOff {E : EV} {l : Launch} {h : Nat} {S : St} {N : Nat} {σ : TS} {x1 : Int32} {x2 : Int32} {res : TS} (hE : EK E) (hf : fX4_getsOff N σ x1 x2 = some res) : CM E l yX4_getsOff (ws_ yX4_getsOff cX4_getsOff 6 none) 1 23 [.ref h, .int x1, .int x2] (twS h σ S) none (twS h res S) := by
  refine CM.of hE (by decide) rfl rfl (Nat.le_of_ble_eq_true rfl) ?_
  intro p e s m below meth c X I ls hl
  exact wX4_getsOff_0 ⟨Nat.le_refl _, Nat.le_refl _⟩ X N _ _ _ _ _ _ _ _ I hl hf
/-! charges(III)V -/
theorem lvX4_charges : GoodIn lw_all (wsV RX4 356 RX4 yX4_charges (ws_ yX4_charges cX4_charges 4 none)) := lw_V q3209 q3211 qs98 q120 q3212
theorem hdX4_charges : yX4_charges.cls = RX4 ∧ yX4_charges.cls ≠ "java/lang/invoke/MethodHandle" ∧ yX4_charges.cls ≠ "java/lang/invoke/VarHandle" ∧ (parseMethodDescriptor yX4_charges.desc).map (fun d => d.parameters.length) = some 3 := by decide +kernel
theorem wX4_charges_0 {E : EV} {l : Launch} {p : Program} {e : Env} {s : State} {m : MethodId} {args : Array Value} {below : List Frame} {meth : Method} {c : Code} {R : Room} {h : Nat} {S : St} {res : TS} (hR : 1 ≤ R.frames ∧ 23 ≤ R.locals) (X : MX E p s m args meth c cX4_charges 4 none RX4 "charges") : ∀ (x1 : Int32) (x2 : Int32) (x3 : Int32) (σ : TS) (H : Heap) (locs : List Loc) (cells slots : Nat) (ls : Array Slot), WI E R s (twS h σ S) H locs cells slots → lv_has ls 4 [(0, .ref h), (1, .int x1), (2, .int x2), (3, .int x3)] → fX4_charges σ x1 x2 x3 = some res → W p l e R s m args below meth c H locs cells slots (MQ below (Qd E R.cells R.slots none (twS h res S)) args s R.cells R.slots (fr E)) (F0 m 0 ls []) := by
  intro x1 x2 x3 σ H locs cells slots ls I hl hf
  obtain ⟨⟨hx, hb, hml, hown, hts⟩, -⟩ := id X
  unfold fX4_charges at hf
  refine lv_aload_n hx hb dX4_charges_0 rfl (lv_at hl 0 rfl) ?_
  refine lv_iload_n hx hb dX4_charges_1 rfl (lv_at hl 2 rfl) ?_
  refine lv_bipush (v := 10) hx hb dX4_charges_2 (by decide) ?_
  refine lv_aload_n hx hb dX4_charges_4 rfl (lv_at hl 0 rfl) ?_
  refine lv_iload_n hx hb dX4_charges_5 rfl (lv_at hl 2 rfl) ?_
  refine lv_bipush (v := 10) hx hb dX4_charges_6 (by decide) ?_
  obtain ⟨v_1, ev_1, hf⟩ := ob hf
  refine tw_V (some (.int v_1)) (rs := [.int v_1, .int (10 : Int32), .int x2, .ref h]) (rest := [.int (10 : Int32), .int x2, .ref h]) (As := [.int x2, .int (10 : Int32)]) X I (mX4_of X.2.2.2.2.1 ev_1) lvX4_of hdX4_of ⟨Nat.le_trans (Nat.le_of_ble_eq_true rfl) hR.1, Nat.le_trans (Nat.le_of_ble_eq_true rfl) hR.2⟩ rfl hl.1 rfl (Nat.le_of_ble_eq_true rfl) rfl dX4_charges_8 (fun H locs cells slots I => ?_)
  refine lv_iload_n hx hb dX4_charges_11 rfl (lv_at hl 3 rfl) ?_
  refine lv_iadd hx hb dX4_charges_12 ?_
  obtain ⟨σ_4, eσ_4, hf⟩ := ob hf
  refine tw_V none (rs := []) (rest := []) (As := [.int x2, .int (10 : Int32), .int (v_1 + x3)]) X I (mX4_sets X.2.2.2.2.1 eσ_4) lvX4_sets hdX4_sets ⟨Nat.le_trans (Nat.le_of_ble_eq_true rfl) hR.1, Nat.le_trans (Nat.le_of_ble_eq_true rfl) hR.2⟩ rfl hl.1 rfl (Nat.le_of_ble_eq_true rfl) rfl dX4_charges_13 (fun H locs cells slots I => ?_)
  refine lv_aload_n hx hb dX4_charges_16 rfl (lv_at hl 0 rfl) ?_
  refine lv_iload_n hx hb dX4_charges_17 rfl (lv_at hl 1 rfl) ?_
  refine lv_iconst (v := 5) hx hb dX4_charges_18 (by decide) ?_
  refine lv_iload_n hx hb dX4_charges_19 rfl (lv_at hl 3 rfl) ?_
  obtain ⟨σ_6, eσ_6, hf⟩ := ob hf
  refine tw_V none (rs := []) (rest := []) (As := [.int x1, .int (5 : Int32), .int x3]) X I (mX4_grows X.2.2.2.2.1 eσ_6) lvX4_grows hdX4_grows ⟨Nat.le_trans (Nat.le_of_ble_eq_true rfl) hR.1, Nat.le_trans (Nat.le_of_ble_eq_true rfl) hR.2⟩ rfl hl.1 rfl (Nat.le_of_ble_eq_true rfl) rfl dX4_charges_20 (fun H locs cells slots I => ?_)
  cases os hf
  exact r_vret X I dX4_charges_23
theorem mX4_charges {E : EV} {l : Launch} {h : Nat} {S : St} {σ : TS} {x1 : Int32} {x2 : Int32} {x3 : Int32} {res : TS} (hE : EK E) (hf : fX4_charges σ x1 x2 x3 = some res) : CM E l yX4_charges (ws_ yX4_charges cX4_charges 4 none) 1 23 [.ref h, .int x1, .int x2, .int x3] (twS h σ S) none (twS h res S) := by
  refine CM.of hE (by decide) rfl rfl (Nat.le_of_ble_eq_true rfl) ?_
  intro p e s m below meth c X I ls hl
  exact wX4_charges_0 ⟨Nat.le_refl _, Nat.le_refl _⟩ X _ _ _ _ _ _ _ _ _ I hl hf
/-! happens(II)V -/
theorem lvX4_happens : GoodIn lw_all (wsV RX4 359 RX4 yX4_happens (ws_ yX4_happens cX4_happens 4 none)) := lw_V q3193 q3195 qs94 q120 q3196
theorem hdX4_happens : yX4_happens.cls = RX4 ∧ yX4_happens.cls ≠ "java/lang/invoke/MethodHandle" ∧ yX4_happens.cls ≠ "java/lang/invoke/VarHandle" ∧ (parseMethodDescriptor yX4_happens.desc).map (fun d => d.parameters.length) = some 2 := by decide +kernel
theorem wX4_happens_159 {E : EV} {l : Launch} {p : Program} {e : Env} {s : State} {m : MethodId} {args : Array Value} {below : List Frame} {meth : Method} {c : Code} {R : Room} {h : Nat} {S : St} {res : TS} (hR : 4 ≤ R.frames ∧ 91 ≤ R.locals) (X : MX E p s m args meth c cX4_happens 4 none RX4 "happens") (N : Nat) : ∀ (x1 : Int32) (x2 : Int32) (σ : TS) (H : Heap) (locs : List Loc) (cells slots : Nat) (ls : Array Slot), WI E R s (twS h σ S) H locs cells slots → lv_has ls 4 [(0, .ref h), (1, .int x1), (2, .int x2)] → fX4_happens_159 N x1 x2 σ = some res → W p l e R s m args below meth c H locs cells slots (MQ below (Qd E R.cells R.slots none (twS h res S)) args s R.cells R.slots (fr E)) (F0 m 159 ls []) := by
  intro x1 x2 σ H locs cells slots ls I hl hf
  obtain ⟨⟨hx, hb, hml, hown, hts⟩, -⟩ := id X
  unfold fX4_happens_159 at hf
  refine lv_aload_n hx hb dX4_happens_159 rfl (lv_at hl 0 rfl) ?_
  refine lv_iload_n hx hb dX4_happens_160 rfl (lv_at hl 1 rfl) ?_
  refine lv_iconst (v := 0) hx hb dX4_happens_161 (by decide) ?_
  refine lv_aload_n hx hb dX4_happens_162 rfl (lv_at hl 0 rfl) ?_
  refine lv_aload_n hx hb dX4_happens_163 rfl (lv_at hl 0 rfl) ?_
  refine tw_get X I 32 (v := .ref (h + 13)) (by decide) q2719 rfl dX4_happens_164 ?_
  refine lv_iload_n hx hb dX4_happens_167 rfl (lv_at hl 2 rfl) ?_
  obtain ⟨v_1, ev_1, hf⟩ := ob hf
  refine tw_ald X I 13 (by decide) (by decide) (by decide) ev_1 dX4_happens_168 ?_
  obtain ⟨v_2, ev_2, hf⟩ := ob hf
  refine tw_V (some (.int v_2)) (rs := [.int v_2, .int (0 : Int32), .int x1, .ref h]) (rest := [.int (0 : Int32), .int x1, .ref h]) (As := [.int v_1]) X I (mX4_zoneOf X.2.2.2.2.1 ev_2) lvX4_zoneOf hdX4_zoneOf ⟨Nat.le_trans (Nat.le_of_ble_eq_true rfl) hR.1, Nat.le_trans (Nat.le_of_ble_eq_true rfl) hR.2⟩ rfl hl.1 rfl (Nat.le_of_ble_eq_true rfl) rfl dX4_happens_169 (fun H locs cells slots I => ?_)
  obtain ⟨σ_5, eσ_5, hf⟩ := ob hf
  refine tw_V none (rs := []) (rest := []) (As := [.int x1, .int (0 : Int32), .int v_2]) X I (mX4_lays2 X.2.2.2.2.1 eσ_5) lvX4_lays2 hdX4_lays2 ⟨Nat.le_trans (Nat.le_of_ble_eq_true rfl) hR.1, Nat.le_trans (Nat.le_of_ble_eq_true rfl) hR.2⟩ rfl hl.1 rfl (Nat.le_of_ble_eq_true rfl) rfl dX4_happens_172 (fun H locs cells slots I => ?_)
  refine lv_aload_n hx hb dX4_happens_175 rfl (lv_at hl 0 rfl) ?_
  refine lv_iload_n hx hb dX4_happens_176 rfl (lv_at hl 1 rfl) ?_
  refine lv_iconst (v := 1) hx hb dX4_happens_177 (by decide) ?_
  refine lv_aload_n hx hb dX4_happens_178 rfl (lv_at hl 0 rfl) ?_
  refine tw_get X I 35 (v := .ref (h + 16)) (by decide) q2722 rfl dX4_happens_179 ?_
  refine lv_iload_n hx hb dX4_happens_182 rfl (lv_at hl 2 rfl) ?_
  obtain ⟨v_6, ev_6, hf⟩ := ob hf
  refine tw_ald X I 16 (by decide) (by decide) (by decide) ev_6 dX4_happens_183 ?_
  obtain ⟨σ_8, eσ_8, hf⟩ := ob hf
  refine tw_V none (rs := []) (rest := []) (As := [.int x1, .int (1 : Int32), .int v_6]) X I (mX4_lays2 X.2.2.2.2.1 eσ_8) lvX4_lays2 hdX4_lays2 ⟨Nat.le_trans (Nat.le_of_ble_eq_true rfl) hR.1, Nat.le_trans (Nat.le_of_ble_eq_true rfl) hR.2⟩ rfl hl.1 rfl (Nat.le_of_ble_eq_true rfl) rfl dX4_happens_184 (fun H locs cells slots I => ?_)
  refine lv_aload_n hx hb dX4_happens_187 rfl (lv_at hl 0 rfl) ?_
  refine lv_iload_n hx hb dX4_happens_188 rfl (lv_at hl 1 rfl) ?_
  refine lv_iconst (v := 2) hx hb dX4_happens_189 (by decide) ?_
  refine lv_aload_n hx hb dX4_happens_190 rfl (lv_at hl 0 rfl) ?_
  refine tw_get X I 36 (v := .ref (h + 17)) (by decide) q2723 rfl dX4_happens_191 ?_
  refine lv_iload_n hx hb dX4_happens_194 rfl (lv_at hl 2 rfl) ?_
  obtain ⟨v_9, ev_9, hf⟩ := ob hf
  refine tw_ald X I 17 (by decide) (by decide) (by decide) ev_9 dX4_happens_195 ?_
  obtain ⟨σ_11, eσ_11, hf⟩ := ob hf
  refine tw_V none (rs := []) (rest := []) (As := [.int x1, .int (2 : Int32), .int v_9]) X I (mX4_lays2 X.2.2.2.2.1 eσ_11) lvX4_lays2 hdX4_lays2 ⟨Nat.le_trans (Nat.le_of_ble_eq_true rfl) hR.1, Nat.le_trans (Nat.le_of_ble_eq_true rfl) hR.2⟩ rfl hl.1 rfl (Nat.le_of_ble_eq_true rfl) rfl dX4_happens_196 (fun H locs cells slots I => ?_)
  cases os hf
  exact r_vret X I dX4_happens_199
theorem wX4_happens_0 {E : EV} {l : Launch} {p : Program} {e : Env} {s : State} {m : MethodId} {args : Array Value} {below : List Frame} {meth : Method} {c : Code} {R : Room} {h : Nat} {S : St} {res : TS} (hR : 4 ≤ R.frames ∧ 91 ≤ R.locals) (X : MX E p s m args meth c cX4_happens 4 none RX4 "happens") (N : Nat) : ∀ (x1 : Int32) (x2 : Int32) (σ : TS) (H : Heap) (locs : List Loc) (cells slots : Nat) (ls : Array Slot), WI E R s (twS h σ S) H locs cells slots → lv_has ls 4 [(0, .ref h), (1, .int x1), (2, .int x2)] → fX4_happens N σ x1 x2 = some res → W p l e R s m args below meth c H locs cells slots (MQ below (Qd E R.cells R.slots none (twS h res S)) args s R.cells R.slots (fr E)) (F0 m 0 ls []) := by
  intro x1 x2 σ H locs cells slots ls I hl hf
  obtain ⟨⟨hx, hb, hml, hown, hts⟩, -⟩ := id X
  unfold fX4_happens at hf
  refine lv_aload_n hx hb dX4_happens_0 rfl (lv_at hl 0 rfl) ?_
  refine tw_get X I 32 (v := .ref (h + 13)) (by decide) q2719 rfl dX4_happens_1 ?_
  refine lv_iload_n hx hb dX4_happens_4 rfl (lv_at hl 2 rfl) ?_
  obtain ⟨v_12, ev_12, hf⟩ := ob hf
  refine tw_ald X I 13 (by decide) (by decide) (by decide) ev_12 dX4_happens_5 ?_
  refine lv_iconst (v := 2) hx hb dX4_happens_6 (by decide) ?_
  refine lv_idiv hx hb dX4_happens_7 (by decide) ?_
  obtain ⟨x3_13, ex3_13, hf⟩ := ol hf
  refine nm_i ex3_13 ?_
  refine lv_istore_n (lv' := [(3, .int x3_13), (0, .ref h), (1, .int x1), (2, .int x2)]) hx hb dX4_happens_8 rfl hl (by decide) rfl (fun ls hl => ?_)
  refine lv_aload_n hx hb dX4_happens_9 rfl (lv_at hl 1 rfl) ?_
  refine lv_iload_n hx hb dX4_happens_10 rfl (lv_at hl 2 rfl) ?_
  refine lv_aload_n hx hb dX4_happens_11 rfl (lv_at hl 1 rfl) ?_
  refine tw_get X I 37 (v := .ref (h + 18)) (by decide) q2724 rfl dX4_happens_12 ?_
  refine lv_iload_n hx hb dX4_happens_15 rfl (lv_at hl 3 rfl) ?_
  obtain ⟨v_14, ev_14, hf⟩ := ob hf
  refine tw_ald X I 18 (by decide) (by decide) (by decide) ev_14 dX4_happens_16 ?_
  obtain ⟨σ_16, eσ_16, hf⟩ := ob hf
  refine tw_V none (rs := []) (rest := []) (As := [.int x1, .int v_14]) X I (mX4_pays X.2.2.2.2.1 eσ_16) lvX4_pays hdX4_pays ⟨Nat.le_trans (Nat.le_of_ble_eq_true rfl) hR.1, Nat.le_trans (Nat.le_of_ble_eq_true rfl) hR.2⟩ rfl hl.1 rfl (Nat.le_of_ble_eq_true rfl) rfl dX4_happens_17 (fun H locs cells slots I => ?_)
  refine lv_aload_n hx hb dX4_happens_20 rfl (lv_at hl 1 rfl) ?_
  refine tw_get X I 32 (v := .ref (h + 13)) (by decide) q2719 rfl dX4_happens_21 ?_
  refine lv_iload_n hx hb dX4_happens_24 rfl (lv_at hl 3 rfl) ?_
  obtain ⟨v_17, ev_17, hf⟩ := ob hf
  refine tw_ald X I 13 (by decide) (by decide) (by decide) ev_17 dX4_happens_25 ?_
  refine lv_iconst (v := 1) hx hb dX4_happens_26 (by decide) ?_
  refine lv_iand hx hb dX4_happens_27 ?_
  refine lv_if_ne (tgt := 60) hx hb dX4_happens_28 (by decide) (fun c_28 => ?_) (fun c_28 => ?_)
  · have hf := im c_28 hf
    refine lv_aload_n hx hb dX4_happens_60 rfl (lv_at hl 1 rfl) ?_
    refine lv_iload_n hx hb dX4_happens_61 rfl (lv_at hl 0 rfl) ?_
    refine lv_bipush (v := 11) hx hb dX4_happens_62 (by decide) ?_
    obtain ⟨v_18, ev_18, hf⟩ := ob hf
    refine tw_V (some (.int v_18)) (rs := [.int v_18]) (rest := []) (As := [.int x3_13, .int (11 : Int32)]) X I (mX4_of X.2.2.2.2.1 ev_18) lvX4_of hdX4_of ⟨Nat.le_trans (Nat.le_of_ble_eq_true rfl) hR.1, Nat.le_trans (Nat.le_of_ble_eq_true rfl) hR.2⟩ rfl hl.1 rfl (Nat.le_of_ble_eq_true rfl) rfl dX4_happens_64 (fun H locs cells slots I => ?_)
    refine lv_iconst (v := 1) hx hb dX4_happens_67 (by decide) ?_
    refine lv_icmp_ne (tgt := 105) hx hb dX4_happens_68 (by decide) (fun c_68 => ?_) (fun c_68 => ?_)
    · have hf := im c_68 hf
      refine lv_aload_n hx hb dX4_happens_105 rfl (lv_at hl 1 rfl) ?_
      refine lv_iload_n hx hb dX4_happens_106 rfl (lv_at hl 2 rfl) ?_
      refine lv_iload_n hx hb dX4_happens_107 rfl (lv_at hl 0 rfl) ?_
      refine lv_aload_n hx hb dX4_happens_108 rfl (lv_at hl 1 rfl) ?_
      refine tw_get X I 18 (v := .int (σ_16.1 0 18)) (by decide) q2705 rfl dX4_happens_109 ?_
      obtain ⟨σ_21, eσ_21, hf⟩ := ob hf
      refine tw_V none (rs := []) (rest := []) (As := [.int x1, .int x3_13, .int (σ_16.1 0 18)]) X I (mX4_charges X.2.2.2.2.1 eσ_21) lvX4_charges hdX4_charges ⟨Nat.le_trans (Nat.le_of_ble_eq_true rfl) hR.1, Nat.le_trans (Nat.le_of_ble_eq_true rfl) hR.2⟩ rfl hl.1 rfl (Nat.le_of_ble_eq_true rfl) rfl dX4_happens_112 (fun H locs cells slots I => ?_)
      refine lv_aload_n hx hb dX4_happens_115 rfl (lv_at hl 1 rfl) ?_
      refine lv_iload_n hx hb dX4_happens_116 rfl (lv_at hl 0 rfl) ?_
      refine lv_iconst (v := 0) hx hb dX4_happens_117 (by decide) ?_
      refine lv_iconst (v := 2) hx hb dX4_happens_118 (by decide) ?_
      obtain ⟨σ_23, eσ_23, hf⟩ := ob hf
      refine tw_V none (rs := []) (rest := []) (As := [.int x3_13, .int (0 : Int32), .int (2 : Int32)]) X I (mX4_sets X.2.2.2.2.1 eσ_23) lvX4_sets hdX4_sets ⟨Nat.le_trans (Nat.le_of_ble_eq_true rfl) hR.1, Nat.le_trans (Nat.le_of_ble_eq_true rfl) hR.2⟩ rfl hl.1 rfl (Nat.le_of_ble_eq_true rfl) rfl dX4_happens_119 (fun H locs cells slots I => ?_)
      refine lv_aload_n hx hb dX4_happens_122 rfl (lv_at hl 1 rfl) ?_
      refine lv_iload_n hx hb dX4_happens_123 rfl (lv_at hl 0 rfl) ?_
      refine lv_bipush (v := 8) hx hb dX4_happens_124 (by decide) ?_
      refine lv_aload_n hx hb dX4_happens_126 rfl (lv_at hl 1 rfl) ?_
      refine tw_get X I 35 (v := .ref (h + 16)) (by decide) q2722 rfl dX4_happens_127 ?_
      refine lv_iload_n hx hb dX4_happens_130 rfl (lv_at hl 3 rfl) ?_
      obtain ⟨v_24, ev_24, hf⟩ := ob hf
      refine tw_ald X I 16 (by decide) (by decide) (by decide) ev_24 dX4_happens_131 ?_
      obtain ⟨σ_26, eσ_26, hf⟩ := ob hf
      refine tw_V none (rs := []) (rest := []) (As := [.int x3_13, .int (8 : Int32), .int v_24]) X I (mX4_sets X.2.2.2.2.1 eσ_26) lvX4_sets hdX4_sets ⟨Nat.le_trans (Nat.le_of_ble_eq_true rfl) hR.1, Nat.le_trans (Nat.le_of_ble_eq_true rfl) hR.2⟩ rfl hl.1 rfl (Nat.le_of_ble_eq_true rfl) rfl dX4_happens_132 (fun H locs cells slots I => ?_)
      refine lv_aload_n hx hb dX4_happens_135 rfl (lv_at hl 1 rfl) ?_
      refine lv_iload_n hx hb dX4_happens_136 rfl (lv_at hl 2 rfl) ?_
      refine lv_bipush (v := 25) hx hb dX4_happens_137 (by decide) ?_
      refine lv_aload_n hx hb dX4_happens_139 rfl (lv_at hl 1 rfl) ?_
      refine lv_iload_n hx hb dX4_happens_140 rfl (lv_at hl 2 rfl) ?_
      refine lv_bipush (v := 24) hx hb dX4_happens_141 (by decide) ?_
      obtain ⟨v_27, ev_27, hf⟩ := ob hf
      refine tw_V (some (.int v_27)) (rs := [.int v_27, .int (25 : Int32), .int x1, .ref h]) (rest := [.int (25 : Int32), .int x1, .ref h]) (As := [.int x1, .int (24 : Int32)]) X I (mX4_in2 X.2.2.2.2.1 ev_27) lvX4_in2 hdX4_in2 ⟨Nat.le_trans (Nat.le_of_ble_eq_true rfl) hR.1, Nat.le_trans (Nat.le_of_ble_eq_true rfl) hR.2⟩ rfl hl.1 rfl (Nat.le_of_ble_eq_true rfl) rfl dX4_happens_143 (fun H locs cells slots I => ?_)
      refine lv_iadd hx hb dX4_happens_146 ?_
      refine lv_iload_n hx hb dX4_happens_147 rfl (lv_at hl 0 rfl) ?_
      obtain ⟨σ_30, eσ_30, hf⟩ := ob hf
      refine tw_V none (rs := []) (rest := []) (As := [.int x1, .int ((25 : Int32) + v_27), .int x3_13]) X I (mX4_lays2 X.2.2.2.2.1 eσ_30) lvX4_lays2 hdX4_lays2 ⟨Nat.le_trans (Nat.le_of_ble_eq_true rfl) hR.1, Nat.le_trans (Nat.le_of_ble_eq_true rfl) hR.2⟩ rfl hl.1 rfl (Nat.le_of_ble_eq_true rfl) rfl dX4_happens_148 (fun H locs cells slots I => ?_)
      refine lv_aload_n hx hb dX4_happens_151 rfl (lv_at hl 1 rfl) ?_
      refine lv_iload_n hx hb dX4_happens_152 rfl (lv_at hl 2 rfl) ?_
      refine lv_bipush (v := 24) hx hb dX4_happens_153 (by decide) ?_
      refine lv_iconst (v := 1) hx hb dX4_happens_155 (by decide) ?_
      obtain ⟨σ_32, eσ_32, hf⟩ := ob hf
      refine tw_V none (rs := []) (rest := []) (As := [.int x1, .int (24 : Int32), .int (1 : Int32)]) X I (mX4_grows X.2.2.2.2.1 eσ_32) lvX4_grows hdX4_grows ⟨Nat.le_trans (Nat.le_of_ble_eq_true rfl) hR.1, Nat.le_trans (Nat.le_of_ble_eq_true rfl) hR.2⟩ rfl hl.1 rfl (Nat.le_of_ble_eq_true rfl) rfl dX4_happens_156 (fun H locs cells slots I => ?_)
      exact wX4_happens_159 hR X N _ _ _ _ _ _ _ _ I (lv_sub hl [1, 2, 3] rfl) hf
    · have hf := ip c_68 hf
      refine lv_aload_n hx hb dX4_happens_71 rfl (lv_at hl 1 rfl) ?_
      refine lv_iload_n hx hb dX4_happens_72 rfl (lv_at hl 2 rfl) ?_
      refine lv_iload_n hx hb dX4_happens_73 rfl (lv_at hl 0 rfl) ?_
      refine lv_aload_n hx hb dX4_happens_74 rfl (lv_at hl 1 rfl) ?_
      refine lv_iconst (v := 4) hx hb dX4_happens_75 (by decide) ?_
      obtain ⟨v_33, ev_33, hf⟩ := ob hf
      refine tw_V (some (.int v_33)) (rs := [.int v_33, .int x3_13, .int x1, .ref h]) (rest := [.int x3_13, .int x1, .ref h]) (As := [.int (4 : Int32)]) X I (mX4_ruled X.2.2.2.2.1 ev_33) lvX4_ruled hdX4_ruled ⟨Nat.le_trans (Nat.le_of_ble_eq_true rfl) hR.1, Nat.le_trans (Nat.le_of_ble_eq_true rfl) hR.2⟩ rfl hl.1 rfl (Nat.le_of_ble_eq_true rfl) rfl dX4_happens_76 (fun H locs cells slots I => ?_)
      obtain ⟨σ_36, eσ_36, hf⟩ := ob hf
      refine tw_V none (rs := []) (rest := []) (As := [.int x1, .int x3_13, .int v_33]) X I (mX4_charges X.2.2.2.2.1 eσ_36) lvX4_charges hdX4_charges ⟨Nat.le_trans (Nat.le_of_ble_eq_true rfl) hR.1, Nat.le_trans (Nat.le_of_ble_eq_true rfl) hR.2⟩ rfl hl.1 rfl (Nat.le_of_ble_eq_true rfl) rfl dX4_happens_79 (fun H locs cells slots I => ?_)
      refine lv_aload_n hx hb dX4_happens_82 rfl (lv_at hl 1 rfl) ?_
      refine lv_iload_n hx hb dX4_happens_83 rfl (lv_at hl 0 rfl) ?_
      refine lv_iconst (v := 0) hx hb dX4_happens_84 (by decide) ?_
      refine lv_iconst (v := 5) hx hb dX4_happens_85 (by decide) ?_
      obtain ⟨σ_38, eσ_38, hf⟩ := ob hf
      refine tw_V none (rs := []) (rest := []) (As := [.int x3_13, .int (0 : Int32), .int (5 : Int32)]) X I (mX4_sets X.2.2.2.2.1 eσ_38) lvX4_sets hdX4_sets ⟨Nat.le_trans (Nat.le_of_ble_eq_true rfl) hR.1, Nat.le_trans (Nat.le_of_ble_eq_true rfl) hR.2⟩ rfl hl.1 rfl (Nat.le_of_ble_eq_true rfl) rfl dX4_happens_86 (fun H locs cells slots I => ?_)
      refine lv_aload_n hx hb dX4_happens_89 rfl (lv_at hl 1 rfl) ?_
      refine lv_iload_n hx hb dX4_happens_90 rfl (lv_at hl 0 rfl) ?_
      refine lv_bipush (v := 8) hx hb dX4_happens_91 (by decide) ?_
      refine lv_aload_n hx hb dX4_happens_93 rfl (lv_at hl 1 rfl) ?_
      refine tw_get X I 35 (v := .ref (h + 16)) (by decide) q2722 rfl dX4_happens_94 ?_
      refine lv_iload_n hx hb dX4_happens_97 rfl (lv_at hl 3 rfl) ?_
      obtain ⟨v_39, ev_39, hf⟩ := ob hf
      refine tw_ald X I 16 (by decide) (by decide) (by decide) ev_39 dX4_happens_98 ?_
      obtain ⟨σ_41, eσ_41, hf⟩ := ob hf
      refine tw_V none (rs := []) (rest := []) (As := [.int x3_13, .int (8 : Int32), .int v_39]) X I (mX4_sets X.2.2.2.2.1 eσ_41) lvX4_sets hdX4_sets ⟨Nat.le_trans (Nat.le_of_ble_eq_true rfl) hR.1, Nat.le_trans (Nat.le_of_ble_eq_true rfl) hR.2⟩ rfl hl.1 rfl (Nat.le_of_ble_eq_true rfl) rfl dX4_happens_99 (fun H locs cells slots I => ?_)
      refine lv_goto (tgt := 159) hx hb dX4_happens_102 (by decide) ?_
      exact wX4_happens_159 hR X N _ _ _ _ _ _ _ _ I (lv_sub hl [1, 2, 3] rfl) hf
  · have hf := ip c_28 hf
    refine lv_aload_n hx hb dX4_happens_31 rfl (lv_at hl 1 rfl) ?_
    refine lv_iload_n hx hb dX4_happens_32 rfl (lv_at hl 2 rfl) ?_
    refine lv_iload_n hx hb dX4_happens_33 rfl (lv_at hl 0 rfl) ?_
    obtain ⟨σ_43, eσ_43, hf⟩ := ob hf
    refine tw_V none (rs := []) (rest := []) (As := [.int x1, .int x3_13]) X I (mX4_getsOff X.2.2.2.2.1 eσ_43) lvX4_getsOff hdX4_getsOff ⟨Nat.le_trans (Nat.le_of_ble_eq_true rfl) hR.1, Nat.le_trans (Nat.le_of_ble_eq_true rfl) hR.2⟩ rfl hl.1 rfl (Nat.le_of_ble_eq_true rfl) rfl dX4_happens_34 (fun H locs cells slots I => ?_)
    refine lv_aload_n hx hb dX4_happens_37 rfl (lv_at hl 1 rfl) ?_
    refine lv_iload_n hx hb dX4_happens_38 rfl (lv_at hl 0 rfl) ?_
    refine lv_iconst (v := 0) hx hb dX4_happens_39 (by decide) ?_
    refine lv_iconst (v := 3) hx hb dX4_happens_40 (by decide) ?_
    obtain ⟨σ_45, eσ_45, hf⟩ := ob hf
    refine tw_V none (rs := []) (rest := []) (As := [.int x3_13, .int (0 : Int32), .int (3 : Int32)]) X I (mX4_sets X.2.2.2.2.1 eσ_45) lvX4_sets hdX4_sets ⟨Nat.le_trans (Nat.le_of_ble_eq_true rfl) hR.1, Nat.le_trans (Nat.le_of_ble_eq_true rfl) hR.2⟩ rfl hl.1 rfl (Nat.le_of_ble_eq_true rfl) rfl dX4_happens_41 (fun H locs cells slots I => ?_)
    refine lv_aload_n hx hb dX4_happens_44 rfl (lv_at hl 1 rfl) ?_
    refine lv_iload_n hx hb dX4_happens_45 rfl (lv_at hl 0 rfl) ?_
    refine lv_bipush (v := 9) hx hb dX4_happens_46 (by decide) ?_
    refine lv_aload_n hx hb dX4_happens_48 rfl (lv_at hl 1 rfl) ?_
    refine tw_get X I 34 (v := .ref (h + 15)) (by decide) q2721 rfl dX4_happens_49 ?_
    refine lv_iload_n hx hb dX4_happens_52 rfl (lv_at hl 3 rfl) ?_
    obtain ⟨v_46, ev_46, hf⟩ := ob hf
    refine tw_ald X I 15 (by decide) (by decide) (by decide) ev_46 dX4_happens_53 ?_
    obtain ⟨σ_48, eσ_48, hf⟩ := ob hf
    refine tw_V none (rs := []) (rest := []) (As := [.int x3_13, .int (9 : Int32), .int v_46]) X I (mX4_sets X.2.2.2.2.1 eσ_48) lvX4_sets hdX4_sets ⟨Nat.le_trans (Nat.le_of_ble_eq_true rfl) hR.1, Nat.le_trans (Nat.le_of_ble_eq_true rfl) hR.2⟩ rfl hl.1 rfl (Nat.le_of_ble_eq_true rfl) rfl dX4_happens_54 (fun H locs cells slots I => ?_)
    refine lv_goto (tgt := 159) hx hb dX4_happens_57 (by decide) ?_
    exact wX4_happens_159 hR X N _ _ _ _ _ _ _ _ I (lv_sub hl [1, 2, 3] rfl) hf
theorem mX4_happens {E : EV} {l : Launch} {h : Nat} {S : St} {N : Nat} {σ : TS} {x1 : Int32} {x2 : Int32} {res : TS} (hE : EK E) (hf : fX4_happens N σ x1 x2 = some res) : CM E l yX4_happens (ws_ yX4_happens cX4_happens 4 none) 4 91 [.ref h, .int x1, .int x2] (twS h σ S) none (twS h res S) := by
  refine CM.of hE (by decide) rfl rfl (Nat.le_of_ble_eq_true rfl) ?_
  intro p e s m below meth c X I ls hl
  exact wX4_happens_0 ⟨Nat.le_refl _, Nat.le_refl _⟩ X N _ _ _ _ _ _ _ _ I hl hf
/-! goesOn(II)I -/
theorem lvX4_goesOn : GoodIn lw_all (wsV RX4 416 RX4 yX4_goesOn (ws_ yX4_goesOn cX4_goesOn 7 (some .int))) := lw_V q3189 q3191 qs93 q120 q3192
theorem hdX4_goesOn : yX4_goesOn.cls = RX4 ∧ yX4_goesOn.cls ≠ "java/lang/invoke/MethodHandle" ∧ yX4_goesOn.cls ≠ "java/lang/invoke/VarHandle" ∧ (parseMethodDescriptor yX4_goesOn.desc).map (fun d => d.parameters.length) = some 2 := by decide +kernel
theorem wX4_goesOn_153 {E : EV} {l : Launch} {p : Program} {e : Env} {s : State} {m : MethodId} {args : Array Value} {below : List Frame} {meth : Method} {c : Code} {R : Room} {h : Nat} {S : St} {res : (Int32 × TS)} (hR : 5 ≤ R.frames ∧ 114 ≤ R.locals) (X : MX E p s m args meth c cX4_goesOn 7 (some .int) RX4 "goesOn") (N : Nat) : ∀ (x3 : Int32) (y1 : Int32) (y2 : Int32) (y3 : Int32) (σ : TS) (H : Heap) (locs : List Loc) (cells slots : Nat) (ls : Array Slot), WI E R s (twS h σ S) H locs cells slots → lv_has ls 7 [(0, .ref h), (3, .int x3)] → fX4_goesOn_153 N x3 y1 y2 y3 σ = some res → W p l e R s m args below meth c H locs cells slots (MQ below (Qd E R.cells R.slots (some (.int res.1)) (twS h res.2 S)) args s R.cells R.slots (fr E)) (F0 m 153 ls [.int y3, .int y2, .int y1, .ref h]) := by
  intro x3 y1 y2 y3 σ H locs cells slots ls I hl hf
  obtain ⟨⟨hx, hb, hml, hown, hts⟩, -⟩ := id X
  unfold fX4_goesOn_153 at hf
  obtain ⟨σ_2, eσ_2, hf⟩ := ob hf
  refine tw_V none (rs := []) (rest := []) (As := [.int y1, .int y2, .int y3]) X I (mX4_lays2 X.2.2.2.2.1 eσ_2) lvX4_lays2 hdX4_lays2 ⟨Nat.le_trans (Nat.le_of_ble_eq_true rfl) hR.1, Nat.le_trans (Nat.le_of_ble_eq_true rfl) hR.2⟩ rfl hl.1 rfl (Nat.le_of_ble_eq_true rfl) rfl dX4_goesOn_153 (fun H locs cells slots I => ?_)
  refine lv_iload_n hx hb dX4_goesOn_156 rfl (lv_at hl 1 rfl) ?_
  cases os hf
  exact r_iret X I dX4_goesOn_157
theorem wX4_goesOn_152 {E : EV} {l : Launch} {p : Program} {e : Env} {s : State} {m : MethodId} {args : Array Value} {below : List Frame} {meth : Method} {c : Code} {R : Room} {h : Nat} {S : St} {res : (Int32 × TS)} (hR : 5 ≤ R.frames ∧ 114 ≤ R.locals) (X : MX E p s m args meth c cX4_goesOn 7 (some .int) RX4 "goesOn") (N : Nat) : ∀ (x3 : Int32) (y1 : Int32) (y2 : Int32) (σ : TS) (H : Heap) (locs : List Loc) (cells slots : Nat) (ls : Array Slot), WI E R s (twS h σ S) H locs cells slots → lv_has ls 7 [(0, .ref h), (3, .int x3)] → fX4_goesOn_152 N x3 y1 y2 σ = some res → W p l e R s m args below meth c H locs cells slots (MQ below (Qd E R.cells R.slots (some (.int res.1)) (twS h res.2 S)) args s R.cells R.slots (fr E)) (F0 m 152 ls [.int y2, .int y1, .ref h]) := by
  intro x3 y1 y2 σ H locs cells slots ls I hl hf
  obtain ⟨⟨hx, hb, hml, hown, hts⟩, -⟩ := id X
  unfold fX4_goesOn_152 at hf
  refine lv_iconst (v := (-1)) hx hb dX4_goesOn_152 (by decide) ?_
  exact wX4_goesOn_153 hR X N _ _ _ _ _ _ _ _ _ _ I (lv_sub hl [0, 1] rfl) hf
theorem wX4_goesOn_123 {E : EV} {l : Launch} {p : Program} {e : Env} {s : State} {m : MethodId} {args : Array Value} {below : List Frame} {meth : Method} {c : Code} {R : Room} {h : Nat} {S : St} {res : (Int32 × TS)} (hR : 5 ≤ R.frames ∧ 114 ≤ R.locals) (X : MX E p s m args meth c cX4_goesOn 7 (some .int) RX4 "goesOn") (N : Nat) : ∀ (x1 : Int32) (x2 : Int32) (x3 : Int32) (σ : TS) (H : Heap) (locs : List Loc) (cells slots : Nat) (ls : Array Slot), WI E R s (twS h σ S) H locs cells slots → lv_has ls 7 [(0, .ref h), (1, .int x1), (2, .int x2), (3, .int x3)] → fX4_goesOn_123 N x1 x2 x3 σ = some res → W p l e R s m args below meth c H locs cells slots (MQ below (Qd E R.cells R.slots (some (.int res.1)) (twS h res.2 S)) args s R.cells R.slots (fr E)) (F0 m 123 ls []) := by
  intro x1 x2 x3 σ H locs cells slots ls I hl hf
  obtain ⟨⟨hx, hb, hml, hown, hts⟩, -⟩ := id X
  unfold fX4_goesOn_123 at hf
  refine lv_aload_n hx hb dX4_goesOn_123 rfl (lv_at hl 0 rfl) ?_
  refine lv_iload_n hx hb dX4_goesOn_124 rfl (lv_at hl 1 rfl) ?_
  refine lv_iconst (v := 3) hx hb dX4_goesOn_125 (by decide) ?_
  refine lv_aload_n hx hb dX4_goesOn_126 rfl (lv_at hl 0 rfl) ?_
  refine tw_get X I 39 (v := .int (σ.1 0 39)) (by decide) q2726 rfl dX4_goesOn_127 ?_
  refine lv_if_le (tgt := 152) hx hb dX4_goesOn_130 (by decide) (fun c_130 => ?_) (fun c_130 => ?_)
  · have hf := ip c_130 hf
    exact wX4_goesOn_152 hR X N _ _ _ _ _ _ _ _ _ I (lv_sub hl [0, 3] rfl) hf
  · have hf := im c_130 hf
    refine lv_aload_n hx hb dX4_goesOn_133 rfl (lv_at hl 0 rfl) ?_
    refine tw_get X I 33 (v := .ref (h + 14)) (by decide) q2720 rfl dX4_goesOn_134 ?_
    refine lv_iconst (v := 0) hx hb dX4_goesOn_137 (by decide) ?_
    obtain ⟨v_3, ev_3, hf⟩ := ob hf
    refine tw_ald X I 14 (by decide) (by decide) (by decide) ev_3 dX4_goesOn_138 ?_
    refine lv_iload_n hx hb dX4_goesOn_139 rfl (lv_at hl 2 rfl) ?_
    refine lv_icmp_ge (tgt := 152) hx hb dX4_goesOn_140 (by decide) (fun c_140 => ?_) (fun c_140 => ?_)
    · have hf := ip c_140 hf
      exact wX4_goesOn_152 hR X N _ _ _ _ _ _ _ _ _ I (lv_sub hl [0, 3] rfl) hf
    · have hf := im c_140 hf
      refine lv_aload_n hx hb dX4_goesOn_143 rfl (lv_at hl 0 rfl) ?_
      refine tw_get X I 33 (v := .ref (h + 14)) (by decide) q2720 rfl dX4_goesOn_144 ?_
      refine lv_iconst (v := 0) hx hb dX4_goesOn_147 (by decide) ?_
      obtain ⟨v_4, ev_4, hf⟩ := ob hf
      refine tw_ald X I 14 (by decide) (by decide) (by decide) ev_4 dX4_goesOn_148 ?_
      refine lv_goto (tgt := 153) hx hb dX4_goesOn_149 (by decide) ?_
      exact wX4_goesOn_153 hR X N _ _ _ _ _ _ _ _ _ _ I (lv_sub hl [0, 3] rfl) hf
theorem wX4_goesOn_63 {E : EV} {l : Launch} {p : Program} {e : Env} {s : State} {m : MethodId} {args : Array Value} {below : List Frame} {meth : Method} {c : Code} {R : Room} {h : Nat} {S : St} {res : (Int32 × TS)} (hR : 5 ≤ R.frames ∧ 114 ≤ R.locals) (X : MX E p s m args meth c cX4_goesOn 7 (some .int) RX4 "goesOn") (N : Nat) (r5 : Int32 → Int32 → Int32 → Int32 → TS → Option (Int32 × TS)) (hr5 : ∀ (x1 : Int32) (x2 : Int32) (x3 : Int32) (x4 : Int32) (σ : TS) (H : Heap) (locs : List Loc) (cells slots : Nat) (ls : Array Slot), WI E R s (twS h σ S) H locs cells slots → lv_has ls 7 [(0, .ref h), (1, .int x1), (2, .int x2), (3, .int x3), (4, .int x4)] → r5 x1 x2 x3 x4 σ = some res → W p l e R s m args below meth c H locs cells slots (MQ below (Qd E R.cells R.slots (some (.int res.1)) (twS h res.2 S)) args s R.cells R.slots (fr E)) (F0 m 5 ls [])) : ∀ (n : Nat) (x1 : Int32) (x2 : Int32) (x3 : Int32) (x4 : Int32) (x6 : Int32) (σ : TS) (H : Heap) (locs : List Loc) (cells slots : Nat) (ls : Array Slot), WI E R s (twS h σ S) H locs cells slots → lv_has ls 7 [(0, .ref h), (1, .int x1), (2, .int x2), (3, .int x3), (4, .int x4), (6, .int x6)] → fX4_goesOn_63 N r5 n x1 x2 x3 x4 x6 σ = some res → W p l e R s m args below meth c H locs cells slots (MQ below (Qd E R.cells R.slots (some (.int res.1)) (twS h res.2 S)) args s R.cells R.slots (fr E)) (F0 m 63 ls []) := by
  intro n
  induction n with
  | zero => intro x1 x2 x3 x4 x6 σ H locs cells slots ls I hl hf; exact nomatch (show none = some res from hf)
  | succ n ih =>
    intro x1 x2 x3 x4 x6 σ H locs cells slots ls I hl hf
    obtain ⟨⟨hx, hb, hml, hown, hts⟩, -⟩ := id X
    rw [fX4_goesOn_63.eq_2] at hf
    refine lv_iload hx hb dX4_goesOn_63 (lv_at hl 5 rfl) ?_
    refine lv_aload_n hx hb dX4_goesOn_65 rfl (lv_at hl 0 rfl) ?_
    refine tw_get X I 39 (v := .int (σ.1 0 39)) (by decide) q2726 rfl dX4_goesOn_66 ?_
    refine lv_icmp_ge (tgt := 97) hx hb dX4_goesOn_69 (by decide) (fun c_69 => ?_) (fun c_69 => ?_)
    · have hf := ip c_69 hf
      refine lv_aload_n hx hb dX4_goesOn_97 rfl (lv_at hl 0 rfl) ?_
      refine lv_iload_n hx hb dX4_goesOn_98 rfl (lv_at hl 1 rfl) ?_
      refine lv_bipush (v := 11) hx hb dX4_goesOn_99 (by decide) ?_
      refine lv_aload_n hx hb dX4_goesOn_101 rfl (lv_at hl 0 rfl) ?_
      refine tw_get X I 39 (v := .int (σ.1 0 39)) (by decide) q2726 rfl dX4_goesOn_102 ?_
      refine lv_iconst (v := 1) hx hb dX4_goesOn_105 (by decide) ?_
      refine lv_isub hx hb dX4_goesOn_106 ?_
      obtain ⟨σ_6, eσ_6, hf⟩ := ob hf
      refine tw_V none (rs := []) (rest := []) (As := [.int x1, .int (11 : Int32), .int ((σ.1 0 39) - (1 : Int32))]) X I (mX4_lays2 X.2.2.2.2.1 eσ_6) lvX4_lays2 hdX4_lays2 ⟨Nat.le_trans (Nat.le_of_ble_eq_true rfl) hR.1, Nat.le_trans (Nat.le_of_ble_eq_true rfl) hR.2⟩ rfl hl.1 rfl (Nat.le_of_ble_eq_true rfl) rfl dX4_goesOn_107 (fun H locs cells slots I => ?_)
      refine lv_aload_n hx hb dX4_goesOn_110 rfl (lv_at hl 0 rfl) ?_
      refine lv_iload_n hx hb dX4_goesOn_111 rfl (lv_at hl 1 rfl) ?_
      refine lv_iconst (v := 3) hx hb dX4_goesOn_112 (by decide) ?_
      refine lv_iconst (v := (-1)) hx hb dX4_goesOn_113 (by decide) ?_
      obtain ⟨σ_8, eσ_8, hf⟩ := ob hf
      refine tw_V none (rs := []) (rest := []) (As := [.int x1, .int (3 : Int32), .int (-1 : Int32)]) X I (mX4_lays2 X.2.2.2.2.1 eσ_8) lvX4_lays2 hdX4_lays2 ⟨Nat.le_trans (Nat.le_of_ble_eq_true rfl) hR.1, Nat.le_trans (Nat.le_of_ble_eq_true rfl) hR.2⟩ rfl hl.1 rfl (Nat.le_of_ble_eq_true rfl) rfl dX4_goesOn_114 (fun H locs cells slots I => ?_)
      obtain ⟨x3_9, ex3_9, hf⟩ := ol hf
      refine lv_iinc (v := x3_9) (lv' := [(3, .int x3_9), (0, .ref h), (1, .int x1), (2, .int x2), (4, .int x4), (6, .int x6)]) hx hb dX4_goesOn_117 hl (k := 3) rfl ex3_9 (by decide) rfl (fun ls hl => ?_)
      refine lv_goto (tgt := 5) hx hb dX4_goesOn_120 (by decide) ?_
      exact hr5 _ _ _ _ _ _ _ _ _ _ I (lv_sub hl [1, 2, 3, 0, 4] rfl) hf
    · have hf := im c_69 hf
      refine lv_aload_n hx hb dX4_goesOn_72 rfl (lv_at hl 0 rfl) ?_
      refine lv_iload_n hx hb dX4_goesOn_73 rfl (lv_at hl 1 rfl) ?_
      refine lv_bipush (v := 12) hx hb dX4_goesOn_74 (by decide) ?_
      refine lv_iload hx hb dX4_goesOn_76 (lv_at hl 5 rfl) ?_
      refine lv_iadd hx hb dX4_goesOn_78 ?_
      refine lv_iconst (v := 1) hx hb dX4_goesOn_79 (by decide) ?_
      refine lv_isub hx hb dX4_goesOn_80 ?_
      refine lv_aload_n hx hb dX4_goesOn_81 rfl (lv_at hl 0 rfl) ?_
      refine tw_get X I 32 (v := .ref (h + 13)) (by decide) q2719 rfl dX4_goesOn_82 ?_
      refine lv_iload hx hb dX4_goesOn_85 (lv_at hl 5 rfl) ?_
      obtain ⟨v_10, ev_10, hf⟩ := ob hf
      refine tw_ald X I 13 (by decide) (by decide) (by decide) ev_10 dX4_goesOn_87 ?_
      obtain ⟨σ_12, eσ_12, hf⟩ := ob hf
      refine tw_V none (rs := []) (rest := []) (As := [.int x1, .int (((12 : Int32) + x6) - (1 : Int32)), .int v_10]) X I (mX4_lays2 X.2.2.2.2.1 eσ_12) lvX4_lays2 hdX4_lays2 ⟨Nat.le_trans (Nat.le_of_ble_eq_true rfl) hR.1, Nat.le_trans (Nat.le_of_ble_eq_true rfl) hR.2⟩ rfl hl.1 rfl (Nat.le_of_ble_eq_true rfl) rfl dX4_goesOn_88 (fun H locs cells slots I => ?_)
      obtain ⟨x6_13, ex6_13, hf⟩ := ol hf
      refine lv_iinc (v := x6_13) (lv' := [(6, .int x6_13), (0, .ref h), (1, .int x1), (2, .int x2), (3, .int x3), (4, .int x4)]) hx hb dX4_goesOn_91 hl (k := 5) rfl ex6_13 (by decide) rfl (fun ls hl => ?_)
      refine lv_goto (tgt := 63) hx hb dX4_goesOn_94 (by decide) ?_
      exact ih _ _ _ _ _ _ _ _ _ _ _ I (lv_sub hl [1, 2, 3, 4, 5, 0] rfl) hf
theorem wX4_goesOn_44 {E : EV} {l : Launch} {p : Program} {e : Env} {s : State} {m : MethodId} {args : Array Value} {below : List Frame} {meth : Method} {c : Code} {R : Room} {h : Nat} {S : St} {res : (Int32 × TS)} (hR : 5 ≤ R.frames ∧ 114 ≤ R.locals) (X : MX E p s m args meth c cX4_goesOn 7 (some .int) RX4 "goesOn") (N : Nat) (r5 : Int32 → Int32 → Int32 → Int32 → TS → Option (Int32 × TS)) (hr5 : ∀ (x1 : Int32) (x2 : Int32) (x3 : Int32) (x4 : Int32) (σ : TS) (H : Heap) (locs : List Loc) (cells slots : Nat) (ls : Array Slot), WI E R s (twS h σ S) H locs cells slots → lv_has ls 7 [(0, .ref h), (1, .int x1), (2, .int x2), (3, .int x3), (4, .int x4)] → r5 x1 x2 x3 x4 σ = some res → W p l e R s m args below meth c H locs cells slots (MQ below (Qd E R.cells R.slots (some (.int res.1)) (twS h res.2 S)) args s R.cells R.slots (fr E)) (F0 m 5 ls [])) : ∀ (x1 : Int32) (x2 : Int32) (x3 : Int32) (y0 : Int32) (σ : TS) (H : Heap) (locs : List Loc) (cells slots : Nat) (ls : Array Slot), WI E R s (twS h σ S) H locs cells slots → lv_has ls 7 [(0, .ref h), (1, .int x1), (2, .int x2), (3, .int x3)] → fX4_goesOn_44 N r5 x1 x2 x3 y0 σ = some res → W p l e R s m args below meth c H locs cells slots (MQ below (Qd E R.cells R.slots (some (.int res.1)) (twS h res.2 S)) args s R.cells R.slots (fr E)) (F0 m 44 ls [.int y0]) := by
  intro x1 x2 x3 y0 σ H locs cells slots ls I hl hf
  obtain ⟨⟨hx, hb, hml, hown, hts⟩, -⟩ := id X
  unfold fX4_goesOn_44 at hf
  refine lv_istore (lv' := [(4, .int y0), (0, .ref h), (1, .int x1), (2, .int x2), (3, .int x3)]) hx hb dX4_goesOn_44 hl (by decide) rfl (fun ls hl => ?_)
  refine lv_iload hx hb dX4_goesOn_46 (lv_at hl 0 rfl) ?_
  refine lv_if_ne (tgt := 54) hx hb dX4_goesOn_48 (by decide) (fun c_48 => ?_) (fun c_48 => ?_)
  · have hf := im c_48 hf
    refine lv_aload_n hx hb dX4_goesOn_54 rfl (lv_at hl 1 rfl) ?_
    refine lv_iload_n hx hb dX4_goesOn_55 rfl (lv_at hl 2 rfl) ?_
    refine lv_iconst (v := 0) hx hb dX4_goesOn_56 (by decide) ?_
    obtain ⟨σ_15, eσ_15, hf⟩ := ob hf
    refine tw_V none (rs := []) (rest := []) (As := [.int x1, .int (0 : Int32)]) X I (mX4_happens X.2.2.2.2.1 eσ_15) lvX4_happens hdX4_happens ⟨Nat.le_trans (Nat.le_of_ble_eq_true rfl) hR.1, Nat.le_trans (Nat.le_of_ble_eq_true rfl) hR.2⟩ rfl hl.1 rfl (Nat.le_of_ble_eq_true rfl) rfl dX4_goesOn_57 (fun H locs cells slots I => ?_)
    refine lv_iconst (v := 1) hx hb dX4_goesOn_60 (by decide) ?_
    refine lv_istore (lv' := [(6, .int (1 : Int32)), (4, .int y0), (0, .ref h), (1, .int x1), (2, .int x2), (3, .int x3)]) hx hb dX4_goesOn_61 hl (by decide) rfl (fun ls hl => ?_)
    exact wX4_goesOn_63 hR X N r5 hr5 N _ _ _ _ _ _ _ _ _ _ _ I (lv_sub hl [2, 3, 4, 5, 1, 0] rfl) hf
  · have hf := ip c_48 hf
    refine lv_goto (tgt := 123) hx hb dX4_goesOn_51 (by decide) ?_
    exact wX4_goesOn_123 hR X N _ _ _ _ _ _ _ _ _ I (lv_sub hl [1, 2, 3, 4] rfl) hf
theorem wX4_goesOn_43 {E : EV} {l : Launch} {p : Program} {e : Env} {s : State} {m : MethodId} {args : Array Value} {below : List Frame} {meth : Method} {c : Code} {R : Room} {h : Nat} {S : St} {res : (Int32 × TS)} (hR : 5 ≤ R.frames ∧ 114 ≤ R.locals) (X : MX E p s m args meth c cX4_goesOn 7 (some .int) RX4 "goesOn") (N : Nat) (r5 : Int32 → Int32 → Int32 → Int32 → TS → Option (Int32 × TS)) (hr5 : ∀ (x1 : Int32) (x2 : Int32) (x3 : Int32) (x4 : Int32) (σ : TS) (H : Heap) (locs : List Loc) (cells slots : Nat) (ls : Array Slot), WI E R s (twS h σ S) H locs cells slots → lv_has ls 7 [(0, .ref h), (1, .int x1), (2, .int x2), (3, .int x3), (4, .int x4)] → r5 x1 x2 x3 x4 σ = some res → W p l e R s m args below meth c H locs cells slots (MQ below (Qd E R.cells R.slots (some (.int res.1)) (twS h res.2 S)) args s R.cells R.slots (fr E)) (F0 m 5 ls [])) : ∀ (x1 : Int32) (x2 : Int32) (x3 : Int32) (σ : TS) (H : Heap) (locs : List Loc) (cells slots : Nat) (ls : Array Slot), WI E R s (twS h σ S) H locs cells slots → lv_has ls 7 [(0, .ref h), (1, .int x1), (2, .int x2), (3, .int x3)] → fX4_goesOn_43 N r5 x1 x2 x3 σ = some res → W p l e R s m args below meth c H locs cells slots (MQ below (Qd E R.cells R.slots (some (.int res.1)) (twS h res.2 S)) args s R.cells R.slots (fr E)) (F0 m 43 ls []) := by
  intro x1 x2 x3 σ H locs cells slots ls I hl hf
  obtain ⟨⟨hx, hb, hml, hown, hts⟩, -⟩ := id X
  unfold fX4_goesOn_43 at hf
  refine lv_iconst (v := 0) hx hb dX4_goesOn_43 (by decide) ?_
  exact wX4_goesOn_44 hR X N r5 hr5 _ _ _ _ _ _ _ _ _ _ I (lv_sub hl [0, 1, 2, 3] rfl) hf
theorem wX4_goesOn_5 {E : EV} {l : Launch} {p : Program} {e : Env} {s : State} {m : MethodId} {args : Array Value} {below : List Frame} {meth : Method} {c : Code} {R : Room} {h : Nat} {S : St} {res : (Int32 × TS)} (hR : 5 ≤ R.frames ∧ 114 ≤ R.locals) (X : MX E p s m args meth c cX4_goesOn 7 (some .int) RX4 "goesOn") (N : Nat) : ∀ (n : Nat) (x1 : Int32) (x2 : Int32) (x3 : Int32) (x4 : Int32) (σ : TS) (H : Heap) (locs : List Loc) (cells slots : Nat) (ls : Array Slot), WI E R s (twS h σ S) H locs cells slots → lv_has ls 7 [(0, .ref h), (1, .int x1), (2, .int x2), (3, .int x3), (4, .int x4)] → fX4_goesOn_5 N n x1 x2 x3 x4 σ = some res → W p l e R s m args below meth c H locs cells slots (MQ below (Qd E R.cells R.slots (some (.int res.1)) (twS h res.2 S)) args s R.cells R.slots (fr E)) (F0 m 5 ls []) := by
  intro n
  induction n with
  | zero => intro x1 x2 x3 x4 σ H locs cells slots ls I hl hf; exact nomatch (show none = some res from hf)
  | succ n ih =>
    intro x1 x2 x3 x4 σ H locs cells slots ls I hl hf
    obtain ⟨⟨hx, hb, hml, hown, hts⟩, -⟩ := id X
    rw [fX4_goesOn_5.eq_2] at hf
    refine lv_iload hx hb dX4_goesOn_5 (lv_at hl 4 rfl) ?_
    refine lv_if_eq (tgt := 123) hx hb dX4_goesOn_7 (by decide) (fun c_7 => ?_) (fun c_7 => ?_)
    · have hf := ip c_7 hf
      exact wX4_goesOn_123 hR X N _ _ _ _ _ _ _ _ _ I (lv_sub hl [0, 1, 2, 3] rfl) hf
    · have hf := im c_7 hf
      refine lv_aload_n hx hb dX4_goesOn_10 rfl (lv_at hl 0 rfl) ?_
      refine lv_iload_n hx hb dX4_goesOn_11 rfl (lv_at hl 1 rfl) ?_
      obtain ⟨σ_17, eσ_17, hf⟩ := ob hf
      refine tw_V none (rs := []) (rest := []) (As := [.int x1]) X I (mX4_lists X.2.2.2.2.1 eσ_17) lvX4_lists hdX4_lists ⟨Nat.le_trans (Nat.le_of_ble_eq_true rfl) hR.1, Nat.le_trans (Nat.le_of_ble_eq_true rfl) hR.2⟩ rfl hl.1 rfl (Nat.le_of_ble_eq_true rfl) rfl dX4_goesOn_12 (fun H locs cells slots I => ?_)
      refine lv_aload_n hx hb dX4_goesOn_15 rfl (lv_at hl 0 rfl) ?_
      refine lv_iload_n hx hb dX4_goesOn_16 rfl (lv_at hl 1 rfl) ?_
      obtain ⟨v_18, ev_18, hf⟩ := ob hf
      refine tw_V (some (.int v_18.1)) (rs := [.int v_18.1]) (rest := []) (As := [.int x1]) X I (mX4_plans X.2.2.2.2.1 ev_18) lvX4_plans hdX4_plans ⟨Nat.le_trans (Nat.le_of_ble_eq_true rfl) hR.1, Nat.le_trans (Nat.le_of_ble_eq_true rfl) hR.2⟩ rfl hl.1 rfl (Nat.le_of_ble_eq_true rfl) rfl dX4_goesOn_17 (fun H locs cells slots I => ?_)
      refine lv_istore (lv' := [(5, .int v_18.1), (0, .ref h), (1, .int x1), (2, .int x2), (3, .int x3), (4, .int x4)]) hx hb dX4_goesOn_20 hl (by decide) rfl (fun ls hl => ?_)
      refine lv_aload_n hx hb dX4_goesOn_22 rfl (lv_at hl 1 rfl) ?_
      refine tw_get X I 39 (v := .int (v_18.2.1 0 39)) (by decide) q2726 rfl dX4_goesOn_23 ?_
      refine lv_if_le (tgt := 43) hx hb dX4_goesOn_26 (by decide) (fun c_26 => ?_) (fun c_26 => ?_)
      · have hf := ip c_26 hf
        exact wX4_goesOn_43 hR X N (fX4_goesOn_5 N n) ih _ _ _ _ _ _ _ _ _ I (lv_sub hl [1, 2, 3, 4] rfl) hf
      · have hf := im c_26 hf
        refine lv_aload_n hx hb dX4_goesOn_29 rfl (lv_at hl 1 rfl) ?_
        refine tw_get X I 35 (v := .ref (h + 16)) (by decide) q2722 rfl dX4_goesOn_30 ?_
        refine lv_iconst (v := 0) hx hb dX4_goesOn_33 (by decide) ?_
        obtain ⟨v_20, ev_20, hf⟩ := ob hf
        refine tw_ald X I 16 (by decide) (by decide) (by decide) ev_20 dX4_goesOn_34 ?_
        refine lv_iload_n hx hb dX4_goesOn_35 rfl (lv_at hl 3 rfl) ?_
        refine lv_icmp_gt (tgt := 43) hx hb dX4_goesOn_36 (by decide) (fun c_36 => ?_) (fun c_36 => ?_)
        · have hf := ip c_36 hf
          exact wX4_goesOn_43 hR X N (fX4_goesOn_5 N n) ih _ _ _ _ _ _ _ _ _ I (lv_sub hl [1, 2, 3, 4] rfl) hf
        · have hf := im c_36 hf
          refine lv_iconst (v := 1) hx hb dX4_goesOn_39 (by decide) ?_
          refine lv_goto (tgt := 44) hx hb dX4_goesOn_40 (by decide) ?_
          exact wX4_goesOn_44 hR X N (fX4_goesOn_5 N n) ih _ _ _ _ _ _ _ _ _ _ I (lv_sub hl [1, 2, 3, 4] rfl) hf
theorem wX4_goesOn_0 {E : EV} {l : Launch} {p : Program} {e : Env} {s : State} {m : MethodId} {args : Array Value} {below : List Frame} {meth : Method} {c : Code} {R : Room} {h : Nat} {S : St} {res : (Int32 × TS)} (hR : 5 ≤ R.frames ∧ 114 ≤ R.locals) (X : MX E p s m args meth c cX4_goesOn 7 (some .int) RX4 "goesOn") (N : Nat) : ∀ (x1 : Int32) (x2 : Int32) (σ : TS) (H : Heap) (locs : List Loc) (cells slots : Nat) (ls : Array Slot), WI E R s (twS h σ S) H locs cells slots → lv_has ls 7 [(0, .ref h), (1, .int x1), (2, .int x2)] → fX4_goesOn N σ x1 x2 = some res → W p l e R s m args below meth c H locs cells slots (MQ below (Qd E R.cells R.slots (some (.int res.1)) (twS h res.2 S)) args s R.cells R.slots (fr E)) (F0 m 0 ls []) := by
  intro x1 x2 σ H locs cells slots ls I hl hf
  obtain ⟨⟨hx, hb, hml, hown, hts⟩, -⟩ := id X
  unfold fX4_goesOn at hf
  refine lv_iconst (v := 0) hx hb dX4_goesOn_0 (by decide) ?_
  refine lv_istore_n (lv' := [(3, .int (0 : Int32)), (0, .ref h), (1, .int x1), (2, .int x2)]) hx hb dX4_goesOn_1 rfl hl (by decide) rfl (fun ls hl => ?_)
  refine lv_iconst (v := 1) hx hb dX4_goesOn_2 (by decide) ?_
  refine lv_istore (lv' := [(4, .int (1 : Int32)), (3, .int (0 : Int32)), (0, .ref h), (1, .int x1), (2, .int x2)]) hx hb dX4_goesOn_3 hl (by decide) rfl (fun ls hl => ?_)
  exact wX4_goesOn_5 hR X N N _ _ _ _ _ _ _ _ _ _ I (lv_sub hl [2, 3, 4, 1, 0] rfl) hf
theorem mX4_goesOn {E : EV} {l : Launch} {h : Nat} {S : St} {N : Nat} {σ : TS} {x1 : Int32} {x2 : Int32} {res : (Int32 × TS)} (hE : EK E) (hf : fX4_goesOn N σ x1 x2 = some res) : CM E l yX4_goesOn (ws_ yX4_goesOn cX4_goesOn 7 (some .int)) 5 114 [.ref h, .int x1, .int x2] (twS h σ S) (some (.int res.1)) (twS h res.2 S) := by
  refine CM.of hE (by decide) rfl rfl (Nat.le_of_ble_eq_true rfl) ?_
  intro p e s m below meth c X I ls hl
  exact wX4_goesOn_0 ⟨Nat.le_refl _, Nat.le_refl _⟩ X N _ _ _ _ _ _ _ _ I hl hf
/-! advance(I)I -/
theorem wX4_advance_128 {E : EV} {l : Launch} {p : Program} {e : Env} {s : State} {m : MethodId} {args : Array Value} {below : List Frame} {meth : Method} {c : Code} {R : Room} {h : Nat} {S : St} {res : (Int32 × TS)} (hR : 6 ≤ R.frames ∧ 140 ≤ R.locals) (X : MX E p s m args meth c cX4_advance 5 (some .int) RX4 "advance") (N : Nat) (r87 : Int32 → Int32 → Int32 → TS → Option (Int32 × TS)) (hr87 : ∀ (x2 : Int32) (x3 : Int32) (x4 : Int32) (σ : TS) (H : Heap) (locs : List Loc) (cells slots : Nat) (ls : Array Slot), WI E R s (twS h σ S) H locs cells slots → lv_has ls 5 [(0, .ref h), (2, .int x2), (3, .int x3), (4, .int x4)] → r87 x2 x3 x4 σ = some res → W p l e R s m args below meth c H locs cells slots (MQ below (Qd E R.cells R.slots (some (.int res.1)) (twS h res.2 S)) args s R.cells R.slots (fr E)) (F0 m 87 ls [])) : ∀ (x2 : Int32) (x3 : Int32) (x4 : Int32) (σ : TS) (H : Heap) (locs : List Loc) (cells slots : Nat) (ls : Array Slot), WI E R s (twS h σ S) H locs cells slots → lv_has ls 5 [(0, .ref h), (2, .int x2), (3, .int x3), (4, .int x4)] → fX4_advance_128 N r87 x2 x3 x4 σ = some res → W p l e R s m args below meth c H locs cells slots (MQ below (Qd E R.cells R.slots (some (.int res.1)) (twS h res.2 S)) args s R.cells R.slots (fr E)) (F0 m 128 ls []) := by
  intro x2 x3 x4 σ H locs cells slots ls I hl hf
  obtain ⟨⟨hx, hb, hml, hown, hts⟩, -⟩ := id X
  unfold fX4_advance_128 at hf
  obtain ⟨x4_1, ex4_1, hf⟩ := ol hf
  refine lv_iinc (v := x4_1) (lv' := [(4, .int x4_1), (0, .ref h), (2, .int x2), (3, .int x3)]) hx hb dX4_advance_128 hl (k := 3) rfl ex4_1 (by decide) rfl (fun ls hl => ?_)
  refine lv_goto (tgt := 87) hx hb dX4_advance_131 (by decide) ?_
  exact hr87 _ _ _ _ _ _ _ _ _ I (lv_sub hl [1, 2, 3, 0] rfl) hf
theorem wX4_advance_87 {E : EV} {l : Launch} {p : Program} {e : Env} {s : State} {m : MethodId} {args : Array Value} {below : List Frame} {meth : Method} {c : Code} {R : Room} {h : Nat} {S : St} {res : (Int32 × TS)} (hR : 6 ≤ R.frames ∧ 140 ≤ R.locals) (X : MX E p s m args meth c cX4_advance 5 (some .int) RX4 "advance") (N : Nat) : ∀ (n : Nat) (x2 : Int32) (x3 : Int32) (x4 : Int32) (σ : TS) (H : Heap) (locs : List Loc) (cells slots : Nat) (ls : Array Slot), WI E R s (twS h σ S) H locs cells slots → lv_has ls 5 [(0, .ref h), (2, .int x2), (3, .int x3), (4, .int x4)] → fX4_advance_87 N n x2 x3 x4 σ = some res → W p l e R s m args below meth c H locs cells slots (MQ below (Qd E R.cells R.slots (some (.int res.1)) (twS h res.2 S)) args s R.cells R.slots (fr E)) (F0 m 87 ls []) := by
  intro n
  induction n with
  | zero => intro x2 x3 x4 σ H locs cells slots ls I hl hf; exact nomatch (show none = some res from hf)
  | succ n ih =>
    intro x2 x3 x4 σ H locs cells slots ls I hl hf
    obtain ⟨⟨hx, hb, hml, hown, hts⟩, -⟩ := id X
    rw [fX4_advance_87.eq_2] at hf
    refine lv_iload hx hb dX4_advance_87 (lv_at hl 3 rfl) ?_
    refine lv_aload_n hx hb dX4_advance_89 rfl (lv_at hl 0 rfl) ?_
    refine tw_get X I 1 (v := .ref (h + 1)) (by decide) q2688 rfl dX4_advance_90 ?_
    refine lv_iconst (v := 1) hx hb dX4_advance_93 (by decide) ?_
    obtain ⟨v_2, ev_2, hf⟩ := ob hf
    refine tw_ald X I 1 (by decide) (by decide) (by decide) ev_2 dX4_advance_94 ?_
    refine lv_icmp_ge (tgt := 134) hx hb dX4_advance_95 (by decide) (fun c_95 => ?_) (fun c_95 => ?_)
    · have hf := ip c_95 hf
      refine lv_iload_n hx hb dX4_advance_134 rfl (lv_at hl 2 rfl) ?_
      cases os hf
      exact r_iret X I dX4_advance_135
    · have hf := im c_95 hf
      refine lv_aload_n hx hb dX4_advance_98 rfl (lv_at hl 0 rfl) ?_
      refine lv_iload hx hb dX4_advance_99 (lv_at hl 3 rfl) ?_
      refine lv_iconst (v := 0) hx hb dX4_advance_101 (by decide) ?_
      obtain ⟨v_3, ev_3, hf⟩ := ob hf
      refine tw_V (some (.int v_3)) (rs := [.int v_3]) (rest := []) (As := [.int x4, .int (0 : Int32)]) X I (mX4_of X.2.2.2.2.1 ev_3) lvX4_of hdX4_of ⟨Nat.le_trans (Nat.le_of_ble_eq_true rfl) hR.1, Nat.le_trans (Nat.le_of_ble_eq_true rfl) hR.2⟩ rfl hl.1 rfl (Nat.le_of_ble_eq_true rfl) rfl dX4_advance_102 (fun H locs cells slots I => ?_)
      refine lv_if_ne (tgt := 128) hx hb dX4_advance_105 (by decide) (fun c_105 => ?_) (fun c_105 => ?_)
      · have hf := im c_105 hf
        exact wX4_advance_128 hR X N (fX4_advance_87 N n) ih _ _ _ _ _ _ _ _ _ I (lv_sub hl [0, 1, 2, 3] rfl) hf
      · have hf := ip c_105 hf
        refine lv_iload_n hx hb dX4_advance_108 rfl (lv_at hl 1 rfl) ?_
        refine lv_aload_n hx hb dX4_advance_109 rfl (lv_at hl 0 rfl) ?_
        refine lv_iload hx hb dX4_advance_110 (lv_at hl 3 rfl) ?_
        refine lv_bipush (v := 16) hx hb dX4_advance_112 (by decide) ?_
        obtain ⟨v_5, ev_5, hf⟩ := ob hf
        refine tw_V (some (.int v_5)) (rs := [.int v_5, .int x2]) (rest := [.int x2]) (As := [.int x4, .int (16 : Int32)]) X I (mX4_of X.2.2.2.2.1 ev_5) lvX4_of hdX4_of ⟨Nat.le_trans (Nat.le_of_ble_eq_true rfl) hR.1, Nat.le_trans (Nat.le_of_ble_eq_true rfl) hR.2⟩ rfl hl.1 rfl (Nat.le_of_ble_eq_true rfl) rfl dX4_advance_114 (fun H locs cells slots I => ?_)
        refine lv_icmp_le (tgt := 128) hx hb dX4_advance_117 (by decide) (fun c_117 => ?_) (fun c_117 => ?_)
        · have hf := ip c_117 hf
          exact wX4_advance_128 hR X N (fX4_advance_87 N n) ih _ _ _ _ _ _ _ _ _ I (lv_sub hl [0, 1, 2, 3] rfl) hf
        · have hf := im c_117 hf
          refine lv_aload_n hx hb dX4_advance_120 rfl (lv_at hl 0 rfl) ?_
          refine lv_iload hx hb dX4_advance_121 (lv_at hl 3 rfl) ?_
          refine lv_iconst (v := 0) hx hb dX4_advance_123 (by decide) ?_
          refine lv_iconst (v := 4) hx hb dX4_advance_124 (by decide) ?_
          obtain ⟨σ_8, eσ_8, hf⟩ := ob hf
          refine tw_V none (rs := []) (rest := []) (As := [.int x4, .int (0 : Int32), .int (4 : Int32)]) X I (mX4_sets X.2.2.2.2.1 eσ_8) lvX4_sets hdX4_sets ⟨Nat.le_trans (Nat.le_of_ble_eq_true rfl) hR.1, Nat.le_trans (Nat.le_of_ble_eq_true rfl) hR.2⟩ rfl hl.1 rfl (Nat.le_of_ble_eq_true rfl) rfl dX4_advance_125 (fun H locs cells slots I => ?_)
          exact wX4_advance_128 hR X N (fX4_advance_87 N n) ih _ _ _ _ _ _ _ _ _ I (lv_sub hl [0, 1, 2, 3] rfl) hf
theorem wX4_advance_52 {E : EV} {l : Launch} {p : Program} {e : Env} {s : State} {m : MethodId} {args : Array Value} {below : List Frame} {meth : Method} {c : Code} {R : Room} {h : Nat} {S : St} {res : (Int32 × TS)} (hR : 6 ≤ R.frames ∧ 140 ≤ R.locals) (X : MX E p s m args meth c cX4_advance 5 (some .int) RX4 "advance") (N : Nat) : ∀ (n : Nat) (x2 : Int32) (x3 : Int32) (x4 : Int32) (σ : TS) (H : Heap) (locs : List Loc) (cells slots : Nat) (ls : Array Slot), WI E R s (twS h σ S) H locs cells slots → lv_has ls 5 [(0, .ref h), (2, .int x2), (3, .int x3), (4, .int x4)] → fX4_advance_52 N n x2 x3 x4 σ = some res → W p l e R s m args below meth c H locs cells slots (MQ below (Qd E R.cells R.slots (some (.int res.1)) (twS h res.2 S)) args s R.cells R.slots (fr E)) (F0 m 52 ls []) := by
  intro n
  induction n with
  | zero => intro x2 x3 x4 σ H locs cells slots ls I hl hf; exact nomatch (show none = some res from hf)
  | succ n ih =>
    intro x2 x3 x4 σ H locs cells slots ls I hl hf
    obtain ⟨⟨hx, hb, hml, hown, hts⟩, -⟩ := id X
    rw [fX4_advance_52.eq_2] at hf
    refine lv_iload hx hb dX4_advance_52 (lv_at hl 3 rfl) ?_
    refine lv_aload_n hx hb dX4_advance_54 rfl (lv_at hl 0 rfl) ?_
    refine tw_get X I 17 (v := .int (σ.1 0 17)) (by decide) q2704 rfl dX4_advance_55 ?_
    refine lv_icmp_ge (tgt := 77) hx hb dX4_advance_58 (by decide) (fun c_58 => ?_) (fun c_58 => ?_)
    · have hf := ip c_58 hf
      refine lv_aload_n hx hb dX4_advance_77 rfl (lv_at hl 0 rfl) ?_
      refine tw_get X I 1 (v := .ref (h + 1)) (by decide) q2688 rfl dX4_advance_78 ?_
      refine lv_iconst (v := 0) hx hb dX4_advance_81 (by decide) ?_
      refine lv_iload_n hx hb dX4_advance_82 rfl (lv_at hl 1 rfl) ?_
      obtain ⟨σ_9, eσ_9, hf⟩ := ob hf
      refine tw_ast X I 1 (by decide) (by decide) (by decide) eσ_9 dX4_advance_83 (fun H locs I => ?_)
      refine lv_iconst (v := 0) hx hb dX4_advance_84 (by decide) ?_
      refine lv_istore (lv' := [(4, .int (0 : Int32)), (0, .ref h), (2, .int x2), (3, .int x3)]) hx hb dX4_advance_85 hl (by decide) rfl (fun ls hl => ?_)
      exact wX4_advance_87 hR X N N _ _ _ _ _ _ _ _ _ I (lv_sub hl [1, 2, 3, 0] rfl) hf
    · have hf := im c_58 hf
      refine lv_iload_n hx hb dX4_advance_61 rfl (lv_at hl 2 rfl) ?_
      refine lv_aload_n hx hb dX4_advance_62 rfl (lv_at hl 0 rfl) ?_
      refine lv_iload hx hb dX4_advance_63 (lv_at hl 3 rfl) ?_
      refine lv_iload_n hx hb dX4_advance_65 rfl (lv_at hl 1 rfl) ?_
      obtain ⟨v_10, ev_10, hf⟩ := ob hf
      refine tw_V (some (.int v_10.1)) (rs := [.int v_10.1, .int x3]) (rest := [.int x3]) (As := [.int x4, .int x2]) X I (mX4_goesOn X.2.2.2.2.1 ev_10) lvX4_goesOn hdX4_goesOn ⟨Nat.le_trans (Nat.le_of_ble_eq_true rfl) hR.1, Nat.le_trans (Nat.le_of_ble_eq_true rfl) hR.2⟩ rfl hl.1 rfl (Nat.le_of_ble_eq_true rfl) rfl dX4_advance_66 (fun H locs cells slots I => ?_)
      refine lv_iadd hx hb dX4_advance_69 ?_
      obtain ⟨x3_12, ex3_12, hf⟩ := ol hf
      refine nm_i ex3_12 ?_
      refine lv_istore_n (lv' := [(3, .int x3_12), (0, .ref h), (2, .int x2), (4, .int x4)]) hx hb dX4_advance_70 rfl hl (by decide) rfl (fun ls hl => ?_)
      obtain ⟨x4_13, ex4_13, hf⟩ := ol hf
      refine lv_iinc (v := x4_13) (lv' := [(4, .int x4_13), (3, .int x3_12), (0, .ref h), (2, .int x2)]) hx hb dX4_advance_71 hl (k := 3) rfl ex4_13 (by decide) rfl (fun ls hl => ?_)
      refine lv_goto (tgt := 52) hx hb dX4_advance_74 (by decide) ?_
      exact ih _ _ _ _ _ _ _ _ _ I (lv_sub hl [2, 3, 1, 0] rfl) hf
theorem wX4_advance_0 {E : EV} {l : Launch} {p : Program} {e : Env} {s : State} {m : MethodId} {args : Array Value} {below : List Frame} {meth : Method} {c : Code} {R : Room} {h : Nat} {S : St} {res : (Int32 × TS)} (hR : 6 ≤ R.frames ∧ 140 ≤ R.locals) (X : MX E p s m args meth c cX4_advance 5 (some .int) RX4 "advance") (N : Nat) : ∀ (x1 : Int32) (σ : TS) (H : Heap) (locs : List Loc) (cells slots : Nat) (ls : Array Slot), WI E R s (twS h σ S) H locs cells slots → lv_has ls 5 [(0, .ref h), (1, .int x1)] → fX4_advance N σ x1 = some res → W p l e R s m args below meth c H locs cells slots (MQ below (Qd E R.cells R.slots (some (.int res.1)) (twS h res.2 S)) args s R.cells R.slots (fr E)) (F0 m 0 ls []) := by
  intro x1 σ H locs cells slots ls I hl hf
  obtain ⟨⟨hx, hb, hml, hown, hts⟩, -⟩ := id X
  unfold fX4_advance at hf
  refine lv_aload_n hx hb dX4_advance_0 rfl (lv_at hl 0 rfl) ?_
  refine lv_iconst (v := 0) hx hb dX4_advance_1 (by decide) ?_
  obtain ⟨σ_14, eσ_14, hf⟩ := ol hf
  refine tw_put X I 0 (ty := .int) (by decide) (by decide) rfl q2687 rfl rfl rfl rfl eσ_14 dX4_advance_2 (fun H locs I => ?_)
  refine lv_aload_n hx hb dX4_advance_5 rfl (lv_at hl 0 rfl) ?_
  refine lv_iload_n hx hb dX4_advance_6 rfl (lv_at hl 1 rfl) ?_
  refine lv_i2l hx hb dX4_advance_7 rfl ?_
  refine lv_lconst (v := 1) hx hb dX4_advance_8 (by decide) ?_
  refine lv_ldc2 (v := 1440) hx hb hown (hts _ q3188) dX4_advance_9 ?_
  obtain ⟨v_15, ev_15, hf⟩ := ob hf
  refine tw_S (some (.int v_15)) (rs := [.int v_15, .ref h]) (rest := [.ref h]) (As := [.long (x1.toInt64), .long (1 : Int64), .long (1440 : Int64)]) X I (mX4_in X.2.2.2.2.1 ev_15) lvX4_in hdX4_in ⟨Nat.le_trans (Nat.le_of_ble_eq_true rfl) hR.1, Nat.le_trans (Nat.le_of_ble_eq_true rfl) hR.2⟩ rfl hl.1 rfl (Nat.le_of_ble_eq_true rfl) rfl dX4_advance_12 (fun H locs cells slots I => ?_)
  refine lv_iconst (v := 1) hx hb dX4_advance_15 (by decide) ?_
  obtain ⟨v_17, ev_17, hf⟩ := ob hf
  refine tw_V (some (.int v_17.1)) (rs := [.int v_17.1]) (rest := []) (As := [.int v_15, .int (1 : Int32)]) X I (mX4_fails X.2.2.2.2.1 ev_17) lvX4_fails hdX4_fails ⟨Nat.le_trans (Nat.le_of_ble_eq_true rfl) hR.1, Nat.le_trans (Nat.le_of_ble_eq_true rfl) hR.2⟩ rfl hl.1 rfl (Nat.le_of_ble_eq_true rfl) rfl dX4_advance_16 (fun H locs cells slots I => ?_)
  refine lv_if_eq (tgt := 24) hx hb dX4_advance_19 (by decide) (fun c_19 => ?_) (fun c_19 => ?_)
  · have hf := ip c_19 hf
    refine lv_aload_n hx hb dX4_advance_24 rfl (lv_at hl 0 rfl) ?_
    refine tw_get X I 1 (v := .ref (h + 1)) (by decide) q2688 rfl dX4_advance_25 ?_
    refine lv_iconst (v := 0) hx hb dX4_advance_28 (by decide) ?_
    obtain ⟨v_19, ev_19, hf⟩ := ob hf
    refine tw_ald X I 1 (by decide) (by decide) (by decide) ev_19 dX4_advance_29 ?_
    refine lv_iload_n hx hb dX4_advance_30 rfl (lv_at hl 1 rfl) ?_
    refine lv_iadd hx hb dX4_advance_31 ?_
    obtain ⟨x2_20, ex2_20, hf⟩ := ol hf
    refine nm_i ex2_20 ?_
    refine lv_istore_n (lv' := [(2, .int x2_20), (0, .ref h), (1, .int x1)]) hx hb dX4_advance_32 rfl hl (by decide) rfl (fun ls hl => ?_)
    refine lv_iload_n hx hb dX4_advance_33 rfl (lv_at hl 0 rfl) ?_
    refine lv_sipush (v := 9999) hx hb dX4_advance_34 (by decide) ?_
    refine lv_icmp_le (tgt := 43) hx hb dX4_advance_37 (by decide) (fun c_37 => ?_) (fun c_37 => ?_)
    · have hf := ip c_37 hf
      refine lv_aload_n hx hb dX4_advance_43 rfl (lv_at hl 1 rfl) ?_
      obtain ⟨σ_22, eσ_22, hf⟩ := ob hf
      refine tw_V none (rs := []) (rest := []) (As := []) X I (mX4_records X.2.2.2.2.1 eσ_22) lvX4_records hdX4_records ⟨Nat.le_trans (Nat.le_of_ble_eq_true rfl) hR.1, Nat.le_trans (Nat.le_of_ble_eq_true rfl) hR.2⟩ rfl hl.1 rfl (Nat.le_of_ble_eq_true rfl) rfl dX4_advance_44 (fun H locs cells slots I => ?_)
      refine lv_iconst (v := 0) hx hb dX4_advance_47 (by decide) ?_
      refine lv_istore_n (lv' := [(3, .int (0 : Int32)), (2, .int x2_20), (0, .ref h), (1, .int x1)]) hx hb dX4_advance_48 rfl hl (by decide) rfl (fun ls hl => ?_)
      refine lv_iconst (v := 0) hx hb dX4_advance_49 (by decide) ?_
      refine lv_istore (lv' := [(4, .int (0 : Int32)), (3, .int (0 : Int32)), (2, .int x2_20), (0, .ref h), (1, .int x1)]) hx hb dX4_advance_50 hl (by decide) rfl (fun ls hl => ?_)
      exact wX4_advance_52 hR X N N _ _ _ _ _ _ _ _ _ I (lv_sub hl [3, 2, 1, 0] rfl) hf
    · have hf := im c_37 hf
      refine lv_bipush (v := (-2)) hx hb dX4_advance_40 (by decide) ?_
      cases os hf
      exact r_iret X I dX4_advance_42
  · have hf := im c_19 hf
    refine lv_iconst (v := 0) hx hb dX4_advance_22 (by decide) ?_
    cases os hf
    exact r_iret X I dX4_advance_23
theorem mX4_advance {E : EV} {l : Launch} {h : Nat} {S : St} {N : Nat} {σ : TS} {x1 : Int32} {res : (Int32 × TS)} (hE : EK E) (hf : fX4_advance N σ x1 = some res) : CM E l yX4_advance (ws_ yX4_advance cX4_advance 5 (some .int)) 6 140 [.ref h, .int x1] (twS h σ S) (some (.int res.1)) (twS h res.2 S) := by
  refine CM.of hE (by decide) rfl rfl (Nat.le_of_ble_eq_true rfl) ?_
  intro p e s m below meth c X I ls hl
  exact wX4_advance_0 ⟨Nat.le_refl _, Nat.le_refl _⟩ X N _ _ _ _ _ _ _ I hl hf
/-! tip(II)I -/
theorem wX4_tip_0 {E : EV} {l : Launch} {p : Program} {e : Env} {s : State} {m : MethodId} {args : Array Value} {below : List Frame} {meth : Method} {c : Code} {R : Room} {h : Nat} {S : St} {res : (Int32 × TS)} (hR : 2 ≤ R.frames ∧ 46 ≤ R.locals) (X : MX E p s m args meth c cX4_tip 3 (some .int) RX4 "tip") (N : Nat) : ∀ (x1 : Int32) (x2 : Int32) (σ : TS) (H : Heap) (locs : List Loc) (cells slots : Nat) (ls : Array Slot), WI E R s (twS h σ S) H locs cells slots → lv_has ls 3 [(0, .ref h), (1, .int x1), (2, .int x2)] → fX4_tip N σ x1 x2 = some res → W p l e R s m args below meth c H locs cells slots (MQ below (Qd E R.cells R.slots (some (.int res.1)) (twS h res.2 S)) args s R.cells R.slots (fr E)) (F0 m 0 ls []) := by
  intro x1 x2 σ H locs cells slots ls I hl hf
  obtain ⟨⟨hx, hb, hml, hown, hts⟩, -⟩ := id X
  unfold fX4_tip at hf
  refine lv_aload_n hx hb dX4_tip_0 rfl (lv_at hl 0 rfl) ?_
  refine lv_iconst (v := 0) hx hb dX4_tip_1 (by decide) ?_
  obtain ⟨σ_1, eσ_1, hf⟩ := ol hf
  refine tw_put X I 0 (ty := .int) (by decide) (by decide) rfl q2687 rfl rfl rfl rfl eσ_1 dX4_tip_2 (fun H locs I => ?_)
  refine lv_aload_n hx hb dX4_tip_5 rfl (lv_at hl 0 rfl) ?_
  refine lv_iload_n hx hb dX4_tip_6 rfl (lv_at hl 1 rfl) ?_
  obtain ⟨v_2, ev_2, hf⟩ := ob hf
  refine tw_V (some (.int v_2.1)) (rs := [.int v_2.1]) (rest := []) (As := [.int x1]) X I (mX4_noTaxi X.2.2.2.2.1 ev_2) lvX4_noTaxi hdX4_noTaxi ⟨Nat.le_trans (Nat.le_of_ble_eq_true rfl) hR.1, Nat.le_trans (Nat.le_of_ble_eq_true rfl) hR.2⟩ rfl hl.1 rfl (Nat.le_of_ble_eq_true rfl) rfl dX4_tip_7 (fun H locs cells slots I => ?_)
  refine lv_if_ne (tgt := 30) hx hb dX4_tip_10 (by decide) (fun c_10 => ?_) (fun c_10 => ?_)
  · have hf := im c_10 hf
    refine lv_iconst (v := 0) hx hb dX4_tip_30 (by decide) ?_
    cases os hf
    exact r_iret X I dX4_tip_31
  · have hf := ip c_10 hf
    refine lv_aload_n hx hb dX4_tip_13 rfl (lv_at hl 0 rfl) ?_
    refine lv_iload_n hx hb dX4_tip_14 rfl (lv_at hl 2 rfl) ?_
    refine lv_i2l hx hb dX4_tip_15 rfl ?_
    refine lv_lconst (v := 1) hx hb dX4_tip_16 (by decide) ?_
    refine lv_ldc2 (v := 2000000000) hx hb hown (hts _ q3217) dX4_tip_17 ?_
    obtain ⟨v_4, ev_4, hf⟩ := ob hf
    refine tw_S (some (.int v_4)) (rs := [.int v_4, .ref h]) (rest := [.ref h]) (As := [.long (x2.toInt64), .long (1 : Int64), .long (2000000000 : Int64)]) X I (mX4_in X.2.2.2.2.1 ev_4) lvX4_in hdX4_in ⟨Nat.le_trans (Nat.le_of_ble_eq_true rfl) hR.1, Nat.le_trans (Nat.le_of_ble_eq_true rfl) hR.2⟩ rfl hl.1 rfl (Nat.le_of_ble_eq_true rfl) rfl dX4_tip_20 (fun H locs cells slots I => ?_)
    refine lv_iconst (v := 2) hx hb dX4_tip_23 (by decide) ?_
    obtain ⟨v_6, ev_6, hf⟩ := ob hf
    refine tw_V (some (.int v_6.1)) (rs := [.int v_6.1]) (rest := []) (As := [.int v_4, .int (2 : Int32)]) X I (mX4_fails X.2.2.2.2.1 ev_6) lvX4_fails hdX4_fails ⟨Nat.le_trans (Nat.le_of_ble_eq_true rfl) hR.1, Nat.le_trans (Nat.le_of_ble_eq_true rfl) hR.2⟩ rfl hl.1 rfl (Nat.le_of_ble_eq_true rfl) rfl dX4_tip_24 (fun H locs cells slots I => ?_)
    refine lv_if_eq (tgt := 32) hx hb dX4_tip_27 (by decide) (fun c_27 => ?_) (fun c_27 => ?_)
    · have hf := ip c_27 hf
      refine lv_aload_n hx hb dX4_tip_32 rfl (lv_at hl 0 rfl) ?_
      refine lv_iload_n hx hb dX4_tip_33 rfl (lv_at hl 1 rfl) ?_
      refine lv_iconst (v := 5) hx hb dX4_tip_34 (by decide) ?_
      obtain ⟨v_8, ev_8, hf⟩ := ob hf
      refine tw_V (some (.int v_8)) (rs := [.int v_8]) (rest := []) (As := [.int x1, .int (5 : Int32)]) X I (mX4_in2 X.2.2.2.2.1 ev_8) lvX4_in2 hdX4_in2 ⟨Nat.le_trans (Nat.le_of_ble_eq_true rfl) hR.1, Nat.le_trans (Nat.le_of_ble_eq_true rfl) hR.2⟩ rfl hl.1 rfl (Nat.le_of_ble_eq_true rfl) rfl dX4_tip_35 (fun H locs cells slots I => ?_)
      refine lv_i2l hx hb dX4_tip_38 rfl ?_
      refine lv_iload_n hx hb dX4_tip_39 rfl (lv_at hl 2 rfl) ?_
      refine lv_i2l hx hb dX4_tip_40 rfl ?_
      refine lv_ladd hx hb dX4_tip_41 ?_
      refine lv_ldc2 (v := 2000000000) hx hb hown (hts _ q3217) dX4_tip_42 ?_
      refine W.lcmp hx hb dX4_tip_45 ?_
      refine lv_if_le (tgt := 52) hx hb dX4_tip_46 (by decide) (fun c_46 => ?_) (fun c_46 => ?_)
      · have hf := ip c_46 hf
        refine lv_aload_n hx hb dX4_tip_52 rfl (lv_at hl 0 rfl) ?_
        obtain ⟨σ_11, eσ_11, hf⟩ := ob hf
        refine tw_V none (rs := []) (rest := []) (As := []) X I (mX4_records X.2.2.2.2.1 eσ_11) lvX4_records hdX4_records ⟨Nat.le_trans (Nat.le_of_ble_eq_true rfl) hR.1, Nat.le_trans (Nat.le_of_ble_eq_true rfl) hR.2⟩ rfl hl.1 rfl (Nat.le_of_ble_eq_true rfl) rfl dX4_tip_53 (fun H locs cells slots I => ?_)
        refine lv_aload_n hx hb dX4_tip_56 rfl (lv_at hl 0 rfl) ?_
        refine lv_iload_n hx hb dX4_tip_57 rfl (lv_at hl 1 rfl) ?_
        refine lv_iconst (v := 5) hx hb dX4_tip_58 (by decide) ?_
        refine lv_iload_n hx hb dX4_tip_59 rfl (lv_at hl 2 rfl) ?_
        obtain ⟨σ_13, eσ_13, hf⟩ := ob hf
        refine tw_V none (rs := []) (rest := []) (As := [.int x1, .int (5 : Int32), .int x2]) X I (mX4_grows X.2.2.2.2.1 eσ_13) lvX4_grows hdX4_grows ⟨Nat.le_trans (Nat.le_of_ble_eq_true rfl) hR.1, Nat.le_trans (Nat.le_of_ble_eq_true rfl) hR.2⟩ rfl hl.1 rfl (Nat.le_of_ble_eq_true rfl) rfl dX4_tip_60 (fun H locs cells slots I => ?_)
        refine lv_aload_n hx hb dX4_tip_63 rfl (lv_at hl 0 rfl) ?_
        refine lv_iload_n hx hb dX4_tip_64 rfl (lv_at hl 1 rfl) ?_
        refine lv_bipush (v := 6) hx hb dX4_tip_65 (by decide) ?_
        refine lv_iload_n hx hb dX4_tip_67 rfl (lv_at hl 2 rfl) ?_
        obtain ⟨σ_15, eσ_15, hf⟩ := ob hf
        refine tw_V none (rs := []) (rest := []) (As := [.int x1, .int (6 : Int32), .int x2]) X I (mX4_grows X.2.2.2.2.1 eσ_15) lvX4_grows hdX4_grows ⟨Nat.le_trans (Nat.le_of_ble_eq_true rfl) hR.1, Nat.le_trans (Nat.le_of_ble_eq_true rfl) hR.2⟩ rfl hl.1 rfl (Nat.le_of_ble_eq_true rfl) rfl dX4_tip_68 (fun H locs cells slots I => ?_)
        refine lv_aload_n hx hb dX4_tip_71 rfl (lv_at hl 0 rfl) ?_
        refine lv_iload_n hx hb dX4_tip_72 rfl (lv_at hl 1 rfl) ?_
        refine lv_iconst (v := 5) hx hb dX4_tip_73 (by decide) ?_
        obtain ⟨v_16, ev_16, hf⟩ := ob hf
        refine tw_V (some (.int v_16)) (rs := [.int v_16]) (rest := []) (As := [.int x1, .int (5 : Int32)]) X I (mX4_in2 X.2.2.2.2.1 ev_16) lvX4_in2 hdX4_in2 ⟨Nat.le_trans (Nat.le_of_ble_eq_true rfl) hR.1, Nat.le_trans (Nat.le_of_ble_eq_true rfl) hR.2⟩ rfl hl.1 rfl (Nat.le_of_ble_eq_true rfl) rfl dX4_tip_74 (fun H locs cells slots I => ?_)
        cases os hf
        exact r_iret X I dX4_tip_77
      · have hf := im c_46 hf
        refine lv_bipush (v := (-5)) hx hb dX4_tip_49 (by decide) ?_
        cases os hf
        exact r_iret X I dX4_tip_51
    · have hf := im c_27 hf
      refine lv_iconst (v := 0) hx hb dX4_tip_30 (by decide) ?_
      cases os hf
      exact r_iret X I dX4_tip_31
theorem mX4_tip {E : EV} {l : Launch} {h : Nat} {S : St} {N : Nat} {σ : TS} {x1 : Int32} {x2 : Int32} {res : (Int32 × TS)} (hE : EK E) (hf : fX4_tip N σ x1 x2 = some res) : CM E l yX4_tip (ws_ yX4_tip cX4_tip 3 (some .int)) 2 46 [.ref h, .int x1, .int x2] (twS h σ S) (some (.int res.1)) (twS h res.2 S) := by
  refine CM.of hE (by decide) rfl rfl (Nat.le_of_ble_eq_true rfl) ?_
  intro p e s m below meth c X I ls hl
  exact wX4_tip_0 ⟨Nat.le_refl _, Nat.le_refl _⟩ X N _ _ _ _ _ _ _ _ I hl hf
/-! setRate(I)I -/
theorem wX4_setRate_0 {E : EV} {l : Launch} {p : Program} {e : Env} {s : State} {m : MethodId} {args : Array Value} {below : List Frame} {meth : Method} {c : Code} {R : Room} {h : Nat} {S : St} {res : (Int32 × TS)} (hR : 1 ≤ R.frames ∧ 25 ≤ R.locals) (X : MX E p s m args meth c cX4_setRate 3 (some .int) RX4 "setRate") (N : Nat) : ∀ (x1 : Int32) (σ : TS) (H : Heap) (locs : List Loc) (cells slots : Nat) (ls : Array Slot), WI E R s (twS h σ S) H locs cells slots → lv_has ls 3 [(0, .ref h), (1, .int x1)] → fX4_setRate N σ x1 = some res → W p l e R s m args below meth c H locs cells slots (MQ below (Qd E R.cells R.slots (some (.int res.1)) (twS h res.2 S)) args s R.cells R.slots (fr E)) (F0 m 0 ls []) := by
  intro x1 σ H locs cells slots ls I hl hf
  obtain ⟨⟨hx, hb, hml, hown, hts⟩, -⟩ := id X
  unfold fX4_setRate at hf
  refine lv_aload_n hx hb dX4_setRate_0 rfl (lv_at hl 0 rfl) ?_
  refine lv_iconst (v := 0) hx hb dX4_setRate_1 (by decide) ?_
  obtain ⟨σ_1, eσ_1, hf⟩ := ol hf
  refine tw_put X I 0 (ty := .int) (by decide) (by decide) rfl q2687 rfl rfl rfl rfl eσ_1 dX4_setRate_2 (fun H locs I => ?_)
  refine lv_aload_n hx hb dX4_setRate_5 rfl (lv_at hl 0 rfl) ?_
  refine lv_iload_n hx hb dX4_setRate_6 rfl (lv_at hl 1 rfl) ?_
  refine lv_i2l hx hb dX4_setRate_7 rfl ?_
  refine lv_lconst (v := 0) hx hb dX4_setRate_8 (by decide) ?_
  refine lv_ldc2 (v := 999) hx hb hown (hts _ q3222) dX4_setRate_9 ?_
  obtain ⟨v_2, ev_2, hf⟩ := ob hf
  refine tw_S (some (.int v_2)) (rs := [.int v_2, .ref h]) (rest := [.ref h]) (As := [.long (x1.toInt64), .long (0 : Int64), .long (999 : Int64)]) X I (mX4_in X.2.2.2.2.1 ev_2) lvX4_in hdX4_in ⟨Nat.le_trans (Nat.le_of_ble_eq_true rfl) hR.1, Nat.le_trans (Nat.le_of_ble_eq_true rfl) hR.2⟩ rfl hl.1 rfl (Nat.le_of_ble_eq_true rfl) rfl dX4_setRate_12 (fun H locs cells slots I => ?_)
  refine lv_iconst (v := 1) hx hb dX4_setRate_15 (by decide) ?_
  obtain ⟨v_4, ev_4, hf⟩ := ob hf
  refine tw_V (some (.int v_4.1)) (rs := [.int v_4.1]) (rest := []) (As := [.int v_2, .int (1 : Int32)]) X I (mX4_fails X.2.2.2.2.1 ev_4) lvX4_fails hdX4_fails ⟨Nat.le_trans (Nat.le_of_ble_eq_true rfl) hR.1, Nat.le_trans (Nat.le_of_ble_eq_true rfl) hR.2⟩ rfl hl.1 rfl (Nat.le_of_ble_eq_true rfl) rfl dX4_setRate_16 (fun H locs cells slots I => ?_)
  refine lv_if_eq (tgt := 24) hx hb dX4_setRate_19 (by decide) (fun c_19 => ?_) (fun c_19 => ?_)
  · have hf := ip c_19 hf
    refine lv_aload_n hx hb dX4_setRate_24 rfl (lv_at hl 0 rfl) ?_
    obtain ⟨σ_7, eσ_7, hf⟩ := ob hf
    refine tw_V none (rs := []) (rest := []) (As := []) X I (mX4_records X.2.2.2.2.1 eσ_7) lvX4_records hdX4_records ⟨Nat.le_trans (Nat.le_of_ble_eq_true rfl) hR.1, Nat.le_trans (Nat.le_of_ble_eq_true rfl) hR.2⟩ rfl hl.1 rfl (Nat.le_of_ble_eq_true rfl) rfl dX4_setRate_25 (fun H locs cells slots I => ?_)
    refine lv_aload_n hx hb dX4_setRate_28 rfl (lv_at hl 0 rfl) ?_
    refine tw_get X I 1 (v := .ref (h + 1)) (by decide) q2688 rfl dX4_setRate_29 ?_
    refine lv_iconst (v := 2) hx hb dX4_setRate_32 (by decide) ?_
    obtain ⟨v_8, ev_8, hf⟩ := ob hf
    refine tw_ald X I 1 (by decide) (by decide) (by decide) ev_8 dX4_setRate_33 ?_
    refine lv_istore_n (lv' := [(2, .int v_8), (0, .ref h), (1, .int x1)]) hx hb dX4_setRate_34 rfl hl (by decide) rfl (fun ls hl => ?_)
    refine lv_aload_n hx hb dX4_setRate_35 rfl (lv_at hl 1 rfl) ?_
    refine tw_get X I 1 (v := .ref (h + 1)) (by decide) q2688 rfl dX4_setRate_36 ?_
    refine lv_iconst (v := 2) hx hb dX4_setRate_39 (by decide) ?_
    refine lv_iload_n hx hb dX4_setRate_40 rfl (lv_at hl 2 rfl) ?_
    obtain ⟨σ_9, eσ_9, hf⟩ := ob hf
    refine tw_ast X I 1 (by decide) (by decide) (by decide) eσ_9 dX4_setRate_41 (fun H locs I => ?_)
    refine lv_iload_n hx hb dX4_setRate_42 rfl (lv_at hl 0 rfl) ?_
    cases os hf
    exact r_iret X I dX4_setRate_43
  · have hf := im c_19 hf
    refine lv_iconst (v := 0) hx hb dX4_setRate_22 (by decide) ?_
    cases os hf
    exact r_iret X I dX4_setRate_23
theorem mX4_setRate {E : EV} {l : Launch} {h : Nat} {S : St} {N : Nat} {σ : TS} {x1 : Int32} {res : (Int32 × TS)} (hE : EK E) (hf : fX4_setRate N σ x1 = some res) : CM E l yX4_setRate (ws_ yX4_setRate cX4_setRate 3 (some .int)) 1 25 [.ref h, .int x1] (twS h σ S) (some (.int res.1)) (twS h res.2 S) := by
  refine CM.of hE (by decide) rfl rfl (Nat.le_of_ble_eq_true rfl) ?_
  intro p e s m below meth c X I ls hl
  exact wX4_setRate_0 ⟨Nat.le_refl _, Nat.le_refl _⟩ X N _ _ _ _ _ _ _ I hl hf
/-! setEnd(II)I -/
theorem wX4_setEnd_0 {E : EV} {l : Launch} {p : Program} {e : Env} {s : State} {m : MethodId} {args : Array Value} {below : List Frame} {meth : Method} {c : Code} {R : Room} {h : Nat} {S : St} {res : (Int32 × TS)} (hR : 2 ≤ R.frames ∧ 46 ≤ R.locals) (X : MX E p s m args meth c cX4_setEnd 4 (some .int) RX4 "setEnd") (N : Nat) : ∀ (x1 : Int32) (x2 : Int32) (σ : TS) (H : Heap) (locs : List Loc) (cells slots : Nat) (ls : Array Slot), WI E R s (twS h σ S) H locs cells slots → lv_has ls 4 [(0, .ref h), (1, .int x1), (2, .int x2)] → fX4_setEnd N σ x1 x2 = some res → W p l e R s m args below meth c H locs cells slots (MQ below (Qd E R.cells R.slots (some (.int res.1)) (twS h res.2 S)) args s R.cells R.slots (fr E)) (F0 m 0 ls []) := by
  intro x1 x2 σ H locs cells slots ls I hl hf
  obtain ⟨⟨hx, hb, hml, hown, hts⟩, -⟩ := id X
  unfold fX4_setEnd at hf
  refine lv_aload_n hx hb dX4_setEnd_0 rfl (lv_at hl 0 rfl) ?_
  refine lv_iconst (v := 0) hx hb dX4_setEnd_1 (by decide) ?_
  obtain ⟨σ_1, eσ_1, hf⟩ := ol hf
  refine tw_put X I 0 (ty := .int) (by decide) (by decide) rfl q2687 rfl rfl rfl rfl eσ_1 dX4_setEnd_2 (fun H locs I => ?_)
  refine lv_aload_n hx hb dX4_setEnd_5 rfl (lv_at hl 0 rfl) ?_
  refine lv_iload_n hx hb dX4_setEnd_6 rfl (lv_at hl 1 rfl) ?_
  obtain ⟨v_2, ev_2, hf⟩ := ob hf
  refine tw_V (some (.int v_2.1)) (rs := [.int v_2.1]) (rest := []) (As := [.int x1]) X I (mX4_noTaxi X.2.2.2.2.1 ev_2) lvX4_noTaxi hdX4_noTaxi ⟨Nat.le_trans (Nat.le_of_ble_eq_true rfl) hR.1, Nat.le_trans (Nat.le_of_ble_eq_true rfl) hR.2⟩ rfl hl.1 rfl (Nat.le_of_ble_eq_true rfl) rfl dX4_setEnd_7 (fun H locs cells slots I => ?_)
  refine lv_if_ne (tgt := 38) hx hb dX4_setEnd_10 (by decide) (fun c_10 => ?_) (fun c_10 => ?_)
  · have hf := im c_10 hf
    refine lv_iconst (v := 0) hx hb dX4_setEnd_38 (by decide) ?_
    cases os hf
    exact r_iret X I dX4_setEnd_39
  · have hf := ip c_10 hf
    refine lv_aload_n hx hb dX4_setEnd_13 rfl (lv_at hl 0 rfl) ?_
    refine lv_iload_n hx hb dX4_setEnd_14 rfl (lv_at hl 2 rfl) ?_
    refine lv_i2l hx hb dX4_setEnd_15 rfl ?_
    refine lv_aload_n hx hb dX4_setEnd_16 rfl (lv_at hl 0 rfl) ?_
    refine tw_get X I 21 (v := .ref (h + 11)) (by decide) q2708 rfl dX4_setEnd_17 ?_
    refine lv_iload_n hx hb dX4_setEnd_20 rfl (lv_at hl 1 rfl) ?_
    obtain ⟨v_4, ev_4, hf⟩ := ob hf
    refine tw_ald X I 11 (by decide) (by decide) (by decide) ev_4 dX4_setEnd_21 ?_
    refine lv_iconst (v := 1) hx hb dX4_setEnd_22 (by decide) ?_
    refine lv_iadd hx hb dX4_setEnd_23 ?_
    refine lv_i2l hx hb dX4_setEnd_24 rfl ?_
    refine lv_ldc2 (v := 2879) hx hb hown (hts _ q2949) dX4_setEnd_25 ?_
    obtain ⟨v_5, ev_5, hf⟩ := ob hf
    refine tw_S (some (.int v_5)) (rs := [.int v_5, .ref h]) (rest := [.ref h]) (As := [.long (x2.toInt64), .long ((v_4 + (1 : Int32)).toInt64), .long (2879 : Int64)]) X I (mX4_in X.2.2.2.2.1 ev_5) lvX4_in hdX4_in ⟨Nat.le_trans (Nat.le_of_ble_eq_true rfl) hR.1, Nat.le_trans (Nat.le_of_ble_eq_true rfl) hR.2⟩ rfl hl.1 rfl (Nat.le_of_ble_eq_true rfl) rfl dX4_setEnd_28 (fun H locs cells slots I => ?_)
    refine lv_iconst (v := 2) hx hb dX4_setEnd_31 (by decide) ?_
    obtain ⟨v_7, ev_7, hf⟩ := ob hf
    refine tw_V (some (.int v_7.1)) (rs := [.int v_7.1]) (rest := []) (As := [.int v_5, .int (2 : Int32)]) X I (mX4_fails X.2.2.2.2.1 ev_7) lvX4_fails hdX4_fails ⟨Nat.le_trans (Nat.le_of_ble_eq_true rfl) hR.1, Nat.le_trans (Nat.le_of_ble_eq_true rfl) hR.2⟩ rfl hl.1 rfl (Nat.le_of_ble_eq_true rfl) rfl dX4_setEnd_32 (fun H locs cells slots I => ?_)
    refine lv_if_eq (tgt := 40) hx hb dX4_setEnd_35 (by decide) (fun c_35 => ?_) (fun c_35 => ?_)
    · have hf := ip c_35 hf
      refine lv_aload_n hx hb dX4_setEnd_40 rfl (lv_at hl 0 rfl) ?_
      obtain ⟨σ_10, eσ_10, hf⟩ := ob hf
      refine tw_V none (rs := []) (rest := []) (As := []) X I (mX4_records X.2.2.2.2.1 eσ_10) lvX4_records hdX4_records ⟨Nat.le_trans (Nat.le_of_ble_eq_true rfl) hR.1, Nat.le_trans (Nat.le_of_ble_eq_true rfl) hR.2⟩ rfl hl.1 rfl (Nat.le_of_ble_eq_true rfl) rfl dX4_setEnd_41 (fun H locs cells slots I => ?_)
      refine lv_aload_n hx hb dX4_setEnd_44 rfl (lv_at hl 0 rfl) ?_
      refine lv_iload_n hx hb dX4_setEnd_45 rfl (lv_at hl 1 rfl) ?_
      refine lv_iconst (v := 4) hx hb dX4_setEnd_46 (by decide) ?_
      obtain ⟨v_11, ev_11, hf⟩ := ob hf
      refine tw_V (some (.int v_11)) (rs := [.int v_11]) (rest := []) (As := [.int x1, .int (4 : Int32)]) X I (mX4_in2 X.2.2.2.2.1 ev_11) lvX4_in2 hdX4_in2 ⟨Nat.le_trans (Nat.le_of_ble_eq_true rfl) hR.1, Nat.le_trans (Nat.le_of_ble_eq_true rfl) hR.2⟩ rfl hl.1 rfl (Nat.le_of_ble_eq_true rfl) rfl dX4_setEnd_47 (fun H locs cells slots I => ?_)
      refine lv_istore_n (lv' := [(3, .int v_11), (0, .ref h), (1, .int x1), (2, .int x2)]) hx hb dX4_setEnd_50 rfl hl (by decide) rfl (fun ls hl => ?_)
      refine lv_aload_n hx hb dX4_setEnd_51 rfl (lv_at hl 1 rfl) ?_
      refine lv_iload_n hx hb dX4_setEnd_52 rfl (lv_at hl 2 rfl) ?_
      refine lv_iconst (v := 4) hx hb dX4_setEnd_53 (by decide) ?_
      refine lv_iload_n hx hb dX4_setEnd_54 rfl (lv_at hl 3 rfl) ?_
      obtain ⟨σ_14, eσ_14, hf⟩ := ob hf
      refine tw_V none (rs := []) (rest := []) (As := [.int x1, .int (4 : Int32), .int x2]) X I (mX4_lays2 X.2.2.2.2.1 eσ_14) lvX4_lays2 hdX4_lays2 ⟨Nat.le_trans (Nat.le_of_ble_eq_true rfl) hR.1, Nat.le_trans (Nat.le_of_ble_eq_true rfl) hR.2⟩ rfl hl.1 rfl (Nat.le_of_ble_eq_true rfl) rfl dX4_setEnd_55 (fun H locs cells slots I => ?_)
      refine lv_iload_n hx hb dX4_setEnd_58 rfl (lv_at hl 0 rfl) ?_
      cases os hf
      exact r_iret X I dX4_setEnd_59
    · have hf := im c_35 hf
      refine lv_iconst (v := 0) hx hb dX4_setEnd_38 (by decide) ?_
      cases os hf
      exact r_iret X I dX4_setEnd_39
theorem mX4_setEnd {E : EV} {l : Launch} {h : Nat} {S : St} {N : Nat} {σ : TS} {x1 : Int32} {x2 : Int32} {res : (Int32 × TS)} (hE : EK E) (hf : fX4_setEnd N σ x1 x2 = some res) : CM E l yX4_setEnd (ws_ yX4_setEnd cX4_setEnd 4 (some .int)) 2 46 [.ref h, .int x1, .int x2] (twS h σ S) (some (.int res.1)) (twS h res.2 S) := by
  refine CM.of hE (by decide) rfl rfl (Nat.le_of_ble_eq_true rfl) ?_
  intro p e s m below meth c X I ls hl
  exact wX4_setEnd_0 ⟨Nat.le_refl _, Nat.le_refl _⟩ X N _ _ _ _ _ _ _ _ I hl hf
/-! setRule(II)I -/
theorem wX4_setRule_0 {E : EV} {l : Launch} {p : Program} {e : Env} {s : State} {m : MethodId} {args : Array Value} {below : List Frame} {meth : Method} {c : Code} {R : Room} {h : Nat} {S : St} {res : (Int32 × TS)} (hR : 1 ≤ R.frames ∧ 25 ≤ R.locals) (X : MX E p s m args meth c cX4_setRule 4 (some .int) RX4 "setRule") (N : Nat) : ∀ (x1 : Int32) (x2 : Int32) (σ : TS) (H : Heap) (locs : List Loc) (cells slots : Nat) (ls : Array Slot), WI E R s (twS h σ S) H locs cells slots → lv_has ls 4 [(0, .ref h), (1, .int x1), (2, .int x2)] → fX4_setRule N σ x1 x2 = some res → W p l e R s m args below meth c H locs cells slots (MQ below (Qd E R.cells R.slots (some (.int res.1)) (twS h res.2 S)) args s R.cells R.slots (fr E)) (F0 m 0 ls []) := by
  intro x1 x2 σ H locs cells slots ls I hl hf
  obtain ⟨⟨hx, hb, hml, hown, hts⟩, -⟩ := id X
  unfold fX4_setRule at hf
  refine lv_aload_n hx hb dX4_setRule_0 rfl (lv_at hl 0 rfl) ?_
  refine lv_iconst (v := 0) hx hb dX4_setRule_1 (by decide) ?_
  obtain ⟨σ_1, eσ_1, hf⟩ := ol hf
  refine tw_put X I 0 (ty := .int) (by decide) (by decide) rfl q2687 rfl rfl rfl rfl eσ_1 dX4_setRule_2 (fun H locs I => ?_)
  refine lv_aload_n hx hb dX4_setRule_5 rfl (lv_at hl 0 rfl) ?_
  refine lv_iload_n hx hb dX4_setRule_6 rfl (lv_at hl 1 rfl) ?_
  refine lv_i2l hx hb dX4_setRule_7 rfl ?_
  refine lv_lconst (v := 0) hx hb dX4_setRule_8 (by decide) ?_
  refine lv_ldc2 (v := 9) hx hb hown (hts _ q2999) dX4_setRule_9 ?_
  obtain ⟨v_2, ev_2, hf⟩ := ob hf
  refine tw_S (some (.int v_2)) (rs := [.int v_2, .ref h]) (rest := [.ref h]) (As := [.long (x1.toInt64), .long (0 : Int64), .long (9 : Int64)]) X I (mX4_in X.2.2.2.2.1 ev_2) lvX4_in hdX4_in ⟨Nat.le_trans (Nat.le_of_ble_eq_true rfl) hR.1, Nat.le_trans (Nat.le_of_ble_eq_true rfl) hR.2⟩ rfl hl.1 rfl (Nat.le_of_ble_eq_true rfl) rfl dX4_setRule_12 (fun H locs cells slots I => ?_)
  refine lv_iconst (v := 1) hx hb dX4_setRule_15 (by decide) ?_
  obtain ⟨v_4, ev_4, hf⟩ := ob hf
  refine tw_V (some (.int v_4.1)) (rs := [.int v_4.1]) (rest := []) (As := [.int v_2, .int (1 : Int32)]) X I (mX4_fails X.2.2.2.2.1 ev_4) lvX4_fails hdX4_fails ⟨Nat.le_trans (Nat.le_of_ble_eq_true rfl) hR.1, Nat.le_trans (Nat.le_of_ble_eq_true rfl) hR.2⟩ rfl hl.1 rfl (Nat.le_of_ble_eq_true rfl) rfl dX4_setRule_16 (fun H locs cells slots I => ?_)
  refine lv_if_ne (tgt := 45) hx hb dX4_setRule_19 (by decide) (fun c_19 => ?_) (fun c_19 => ?_)
  · have hf := im c_19 hf
    refine lv_iconst (v := 0) hx hb dX4_setRule_45 (by decide) ?_
    cases os hf
    exact r_iret X I dX4_setRule_46
  · have hf := ip c_19 hf
    refine lv_aload_n hx hb dX4_setRule_22 rfl (lv_at hl 0 rfl) ?_
    refine lv_iload_n hx hb dX4_setRule_23 rfl (lv_at hl 2 rfl) ?_
    refine lv_i2l hx hb dX4_setRule_24 rfl ?_
    refine lv_iload_n hx hb dX4_setRule_25 rfl (lv_at hl 1 rfl) ?_
    obtain ⟨v_6, ev_6, hf⟩ := ob hf
    refine tw_S (some (.int v_6)) (rs := [.int v_6, .long (x2.toInt64), .ref h]) (rest := [.long (x2.toInt64), .ref h]) (As := [.int x1]) X I (mX4_least X.2.2.2.2.1 ev_6) lvX4_least hdX4_least ⟨Nat.le_trans (Nat.le_of_ble_eq_true rfl) hR.1, Nat.le_trans (Nat.le_of_ble_eq_true rfl) hR.2⟩ rfl hl.1 rfl (Nat.le_of_ble_eq_true rfl) rfl dX4_setRule_26 (fun H locs cells slots I => ?_)
    refine lv_i2l hx hb dX4_setRule_29 rfl ?_
    refine lv_iload_n hx hb dX4_setRule_30 rfl (lv_at hl 1 rfl) ?_
    obtain ⟨v_8, ev_8, hf⟩ := ob hf
    refine tw_S (some (.int v_8)) (rs := [.int v_8, .long (v_6.toInt64), .long (x2.toInt64), .ref h]) (rest := [.long (v_6.toInt64), .long (x2.toInt64), .ref h]) (As := [.int x1]) X I (mX4_most X.2.2.2.2.1 ev_8) lvX4_most hdX4_most ⟨Nat.le_trans (Nat.le_of_ble_eq_true rfl) hR.1, Nat.le_trans (Nat.le_of_ble_eq_true rfl) hR.2⟩ rfl hl.1 rfl (Nat.le_of_ble_eq_true rfl) rfl dX4_setRule_31 (fun H locs cells slots I => ?_)
    refine lv_i2l hx hb dX4_setRule_34 rfl ?_
    obtain ⟨v_10, ev_10, hf⟩ := ob hf
    refine tw_S (some (.int v_10)) (rs := [.int v_10, .ref h]) (rest := [.ref h]) (As := [.long (x2.toInt64), .long (v_6.toInt64), .long (v_8.toInt64)]) X I (mX4_in X.2.2.2.2.1 ev_10) lvX4_in hdX4_in ⟨Nat.le_trans (Nat.le_of_ble_eq_true rfl) hR.1, Nat.le_trans (Nat.le_of_ble_eq_true rfl) hR.2⟩ rfl hl.1 rfl (Nat.le_of_ble_eq_true rfl) rfl dX4_setRule_35 (fun H locs cells slots I => ?_)
    refine lv_iconst (v := 2) hx hb dX4_setRule_38 (by decide) ?_
    obtain ⟨v_12, ev_12, hf⟩ := ob hf
    refine tw_V (some (.int v_12.1)) (rs := [.int v_12.1]) (rest := []) (As := [.int v_10, .int (2 : Int32)]) X I (mX4_fails X.2.2.2.2.1 ev_12) lvX4_fails hdX4_fails ⟨Nat.le_trans (Nat.le_of_ble_eq_true rfl) hR.1, Nat.le_trans (Nat.le_of_ble_eq_true rfl) hR.2⟩ rfl hl.1 rfl (Nat.le_of_ble_eq_true rfl) rfl dX4_setRule_39 (fun H locs cells slots I => ?_)
    refine lv_if_eq (tgt := 47) hx hb dX4_setRule_42 (by decide) (fun c_42 => ?_) (fun c_42 => ?_)
    · have hf := ip c_42 hf
      refine lv_aload_n hx hb dX4_setRule_47 rfl (lv_at hl 0 rfl) ?_
      obtain ⟨σ_15, eσ_15, hf⟩ := ob hf
      refine tw_V none (rs := []) (rest := []) (As := []) X I (mX4_records X.2.2.2.2.1 eσ_15) lvX4_records hdX4_records ⟨Nat.le_trans (Nat.le_of_ble_eq_true rfl) hR.1, Nat.le_trans (Nat.le_of_ble_eq_true rfl) hR.2⟩ rfl hl.1 rfl (Nat.le_of_ble_eq_true rfl) rfl dX4_setRule_48 (fun H locs cells slots I => ?_)
      refine lv_aload_n hx hb dX4_setRule_51 rfl (lv_at hl 0 rfl) ?_
      refine lv_iload_n hx hb dX4_setRule_52 rfl (lv_at hl 1 rfl) ?_
      obtain ⟨v_16, ev_16, hf⟩ := ob hf
      refine tw_V (some (.int v_16)) (rs := [.int v_16]) (rest := []) (As := [.int x1]) X I (mX4_ruled X.2.2.2.2.1 ev_16) lvX4_ruled hdX4_ruled ⟨Nat.le_trans (Nat.le_of_ble_eq_true rfl) hR.1, Nat.le_trans (Nat.le_of_ble_eq_true rfl) hR.2⟩ rfl hl.1 rfl (Nat.le_of_ble_eq_true rfl) rfl dX4_setRule_53 (fun H locs cells slots I => ?_)
      refine lv_istore_n (lv' := [(3, .int v_16), (0, .ref h), (1, .int x1), (2, .int x2)]) hx hb dX4_setRule_56 rfl hl (by decide) rfl (fun ls hl => ?_)
      refine lv_aload_n hx hb dX4_setRule_57 rfl (lv_at hl 1 rfl) ?_
      refine tw_get X I 1 (v := .ref (h + 1)) (by decide) q2688 rfl dX4_setRule_58 ?_
      refine lv_iconst (v := 3) hx hb dX4_setRule_61 (by decide) ?_
      refine lv_iload_n hx hb dX4_setRule_62 rfl (lv_at hl 2 rfl) ?_
      refine lv_iadd hx hb dX4_setRule_63 ?_
      refine lv_iload_n hx hb dX4_setRule_64 rfl (lv_at hl 3 rfl) ?_
      obtain ⟨σ_18, eσ_18, hf⟩ := ob hf
      refine tw_ast X I 1 (by decide) (by decide) (by decide) eσ_18 dX4_setRule_65 (fun H locs I => ?_)
      refine lv_iload_n hx hb dX4_setRule_66 rfl (lv_at hl 0 rfl) ?_
      cases os hf
      exact r_iret X I dX4_setRule_67
    · have hf := im c_42 hf
      refine lv_iconst (v := 0) hx hb dX4_setRule_45 (by decide) ?_
      cases os hf
      exact r_iret X I dX4_setRule_46
theorem mX4_setRule {E : EV} {l : Launch} {h : Nat} {S : St} {N : Nat} {σ : TS} {x1 : Int32} {x2 : Int32} {res : (Int32 × TS)} (hE : EK E) (hf : fX4_setRule N σ x1 x2 = some res) : CM E l yX4_setRule (ws_ yX4_setRule cX4_setRule 4 (some .int)) 1 25 [.ref h, .int x1, .int x2] (twS h σ S) (some (.int res.1)) (twS h res.2 S) := by
  refine CM.of hE (by decide) rfl rfl (Nat.le_of_ble_eq_true rfl) ?_
  intro p e s m below meth c X I ls hl
  exact wX4_setRule_0 ⟨Nat.le_refl _, Nat.le_refl _⟩ X N _ _ _ _ _ _ _ _ I hl hf
/-! undoCount()I -/
theorem wX4_undoCount_0 {E : EV} {l : Launch} {p : Program} {e : Env} {s : State} {m : MethodId} {args : Array Value} {below : List Frame} {meth : Method} {c : Code} {R : Room} {h : Nat} {S : St} {res : (Int32 × TS)} (hR : 0 ≤ R.frames ∧ 0 ≤ R.locals) (X : MX E p s m args meth c cX4_undoCount 1 (some .int) RX4 "undoCount") : ∀ (σ : TS) (H : Heap) (locs : List Loc) (cells slots : Nat) (ls : Array Slot), WI E R s (twS h σ S) H locs cells slots → lv_has ls 1 [(0, .ref h)] → fX4_undoCount σ = some res → W p l e R s m args below meth c H locs cells slots (MQ below (Qd E R.cells R.slots (some (.int res.1)) (twS h res.2 S)) args s R.cells R.slots (fr E)) (F0 m 0 ls []) := by
  intro σ H locs cells slots ls I hl hf
  obtain ⟨⟨hx, hb, hml, hown, hts⟩, -⟩ := id X
  unfold fX4_undoCount at hf
  refine lv_aload_n hx hb dX4_undoCount_0 rfl (lv_at hl 0 rfl) ?_
  refine lv_iconst (v := 0) hx hb dX4_undoCount_1 (by decide) ?_
  obtain ⟨σ_1, eσ_1, hf⟩ := ol hf
  refine tw_put X I 0 (ty := .int) (by decide) (by decide) rfl q2687 rfl rfl rfl rfl eσ_1 dX4_undoCount_2 (fun H locs I => ?_)
  refine lv_aload_n hx hb dX4_undoCount_5 rfl (lv_at hl 0 rfl) ?_
  refine tw_get X I 6 (v := .int (σ_1.1 0 6)) (by decide) q2693 rfl dX4_undoCount_6 ?_
  cases os hf
  exact r_iret X I dX4_undoCount_9
theorem mX4_undoCount {E : EV} {l : Launch} {h : Nat} {S : St} {σ : TS} {res : (Int32 × TS)} (hE : EK E) (hf : fX4_undoCount σ = some res) : CM E l yX4_undoCount (ws_ yX4_undoCount cX4_undoCount 1 (some .int)) 0 0 [.ref h] (twS h σ S) (some (.int res.1)) (twS h res.2 S) := by
  refine CM.of hE (by decide) rfl rfl (Nat.le_of_ble_eq_true rfl) ?_
  intro p e s m below meth c X I ls hl
  exact wX4_undoCount_0 ⟨Nat.le_refl _, Nat.le_refl _⟩ X _ _ _ _ _ _ I hl hf
/-! undo()I -/
theorem wX4_undo_26 {E : EV} {l : Launch} {p : Program} {e : Env} {s : State} {m : MethodId} {args : Array Value} {below : List Frame} {meth : Method} {c : Code} {R : Room} {h : Nat} {S : St} {res : (Int32 × TS)} (hR : 0 ≤ R.frames ∧ 0 ≤ R.locals) (X : MX E p s m args meth c cX4_undo 2 (some .int) RX4 "undo") (N : Nat) : ∀ (n : Nat) (x1 : Int32) (σ : TS) (H : Heap) (locs : List Loc) (cells slots : Nat) (ls : Array Slot), WI E R s (twS h σ S) H locs cells slots → lv_has ls 2 [(0, .ref h), (1, .int x1)] → fX4_undo_26 N n x1 σ = some res → W p l e R s m args below meth c H locs cells slots (MQ below (Qd E R.cells R.slots (some (.int res.1)) (twS h res.2 S)) args s R.cells R.slots (fr E)) (F0 m 26 ls []) := by
  intro n
  induction n with
  | zero => intro x1 σ H locs cells slots ls I hl hf; exact nomatch (show none = some res from hf)
  | succ n ih =>
    intro x1 σ H locs cells slots ls I hl hf
    obtain ⟨⟨hx, hb, hml, hown, hts⟩, -⟩ := id X
    rw [fX4_undo_26.eq_2] at hf
    refine lv_iload_n hx hb dX4_undo_26 rfl (lv_at hl 1 rfl) ?_
    refine lv_sipush (v := 581) hx hb dX4_undo_27 (by decide) ?_
    refine lv_icmp_ge (tgt := 60) hx hb dX4_undo_30 (by decide) (fun c_30 => ?_) (fun c_30 => ?_)
    · have hf := ip c_30 hf
      refine lv_aload_n hx hb dX4_undo_60 rfl (lv_at hl 0 rfl) ?_
      refine tw_get X I 6 (v := .int (σ.1 0 6)) (by decide) q2693 rfl dX4_undo_61 ?_
      cases os hf
      exact r_iret X I dX4_undo_64
    · have hf := im c_30 hf
      refine lv_aload_n hx hb dX4_undo_33 rfl (lv_at hl 0 rfl) ?_
      refine tw_get X I 1 (v := .ref (h + 1)) (by decide) q2688 rfl dX4_undo_34 ?_
      refine lv_iload_n hx hb dX4_undo_37 rfl (lv_at hl 1 rfl) ?_
      refine lv_aload_n hx hb dX4_undo_38 rfl (lv_at hl 0 rfl) ?_
      refine tw_get X I 4 (v := .ref (h + 4)) (by decide) q2691 rfl dX4_undo_39 ?_
      refine lv_sipush (v := 581) hx hb dX4_undo_42 (by decide) ?_
      refine lv_aload_n hx hb dX4_undo_45 rfl (lv_at hl 0 rfl) ?_
      refine tw_get X I 6 (v := .int (σ.1 0 6)) (by decide) q2693 rfl dX4_undo_46 ?_
      refine lv_imul hx hb dX4_undo_49 ?_
      refine lv_iload_n hx hb dX4_undo_50 rfl (lv_at hl 1 rfl) ?_
      refine lv_iadd hx hb dX4_undo_51 ?_
      obtain ⟨v_1, ev_1, hf⟩ := ob hf
      refine tw_ald X I 4 (by decide) (by decide) (by decide) ev_1 dX4_undo_52 ?_
      obtain ⟨σ_2, eσ_2, hf⟩ := ob hf
      refine tw_ast X I 1 (by decide) (by decide) (by decide) eσ_2 dX4_undo_53 (fun H locs I => ?_)
      obtain ⟨x1_3, ex1_3, hf⟩ := ol hf
      refine lv_iinc (v := x1_3) (lv' := [(1, .int x1_3), (0, .ref h)]) hx hb dX4_undo_54 hl (k := 1) rfl ex1_3 (by decide) rfl (fun ls hl => ?_)
      refine lv_goto (tgt := 26) hx hb dX4_undo_57 (by decide) ?_
      exact ih _ _ _ _ _ _ _ I (lv_sub hl [1, 0] rfl) hf
theorem wX4_undo_0 {E : EV} {l : Launch} {p : Program} {e : Env} {s : State} {m : MethodId} {args : Array Value} {below : List Frame} {meth : Method} {c : Code} {R : Room} {h : Nat} {S : St} {res : (Int32 × TS)} (hR : 0 ≤ R.frames ∧ 0 ≤ R.locals) (X : MX E p s m args meth c cX4_undo 2 (some .int) RX4 "undo") (N : Nat) : ∀ (σ : TS) (H : Heap) (locs : List Loc) (cells slots : Nat) (ls : Array Slot), WI E R s (twS h σ S) H locs cells slots → lv_has ls 2 [(0, .ref h)] → fX4_undo N σ = some res → W p l e R s m args below meth c H locs cells slots (MQ below (Qd E R.cells R.slots (some (.int res.1)) (twS h res.2 S)) args s R.cells R.slots (fr E)) (F0 m 0 ls []) := by
  intro σ H locs cells slots ls I hl hf
  obtain ⟨⟨hx, hb, hml, hown, hts⟩, -⟩ := id X
  unfold fX4_undo at hf
  refine lv_aload_n hx hb dX4_undo_0 rfl (lv_at hl 0 rfl) ?_
  refine lv_iconst (v := 0) hx hb dX4_undo_1 (by decide) ?_
  obtain ⟨σ_4, eσ_4, hf⟩ := ol hf
  refine tw_put X I 0 (ty := .int) (by decide) (by decide) rfl q2687 rfl rfl rfl rfl eσ_4 dX4_undo_2 (fun H locs I => ?_)
  refine lv_aload_n hx hb dX4_undo_5 rfl (lv_at hl 0 rfl) ?_
  refine tw_get X I 6 (v := .int (σ_4.1 0 6)) (by decide) q2693 rfl dX4_undo_6 ?_
  refine lv_if_ne (tgt := 14) hx hb dX4_undo_9 (by decide) (fun c_9 => ?_) (fun c_9 => ?_)
  · have hf := im c_9 hf
    refine lv_aload_n hx hb dX4_undo_14 rfl (lv_at hl 0 rfl) ?_
    refine lv_dup hx hb dX4_undo_15 rfl ?_
    refine tw_get X I 6 (v := .int (σ_4.1 0 6)) (by decide) q2693 rfl dX4_undo_16 ?_
    refine lv_iconst (v := 1) hx hb dX4_undo_19 (by decide) ?_
    refine lv_isub hx hb dX4_undo_20 ?_
    obtain ⟨σ_5, eσ_5, hf⟩ := ol hf
    refine tw_put X I 6 (ty := .int) (by decide) (by decide) rfl q2693 rfl rfl rfl rfl eσ_5 dX4_undo_21 (fun H locs I => ?_)
    refine lv_iconst (v := 0) hx hb dX4_undo_24 (by decide) ?_
    refine lv_istore_n (lv' := [(1, .int (0 : Int32)), (0, .ref h)]) hx hb dX4_undo_25 rfl hl (by decide) rfl (fun ls hl => ?_)
    exact wX4_undo_26 hR X N N _ _ _ _ _ _ _ I (lv_sub hl [1, 0] rfl) hf
  · have hf := ip c_9 hf
    refine lv_iconst (v := (-1)) hx hb dX4_undo_12 (by decide) ?_
    cases os hf
    exact r_iret X I dX4_undo_13
theorem mX4_undo {E : EV} {l : Launch} {h : Nat} {S : St} {N : Nat} {σ : TS} {res : (Int32 × TS)} (hE : EK E) (hf : fX4_undo N σ = some res) : CM E l yX4_undo (ws_ yX4_undo cX4_undo 2 (some .int)) 0 0 [.ref h] (twS h σ S) (some (.int res.1)) (twS h res.2 S) := by
  refine CM.of hE (by decide) rfl rfl (Nat.le_of_ble_eq_true rfl) ?_
  intro p e s m below meth c X I ls hl
  exact wX4_undo_0 ⟨Nat.le_refl _, Nat.le_refl _⟩ X N _ _ _ _ _ _ I hl hf
/-! saveSnapshot()V -/
theorem wX4_saveSnapshot_7 {E : EV} {l : Launch} {p : Program} {e : Env} {s : State} {m : MethodId} {args : Array Value} {below : List Frame} {meth : Method} {c : Code} {R : Room} {h : Nat} {S : St} {res : TS} (hR : 0 ≤ R.frames ∧ 0 ≤ R.locals) (X : MX E p s m args meth c cX4_saveSnapshot 2 none RX4 "saveSnapshot") (N : Nat) : ∀ (n : Nat) (x1 : Int32) (σ : TS) (H : Heap) (locs : List Loc) (cells slots : Nat) (ls : Array Slot), WI E R s (twS h σ S) H locs cells slots → lv_has ls 2 [(0, .ref h), (1, .int x1)] → fX4_saveSnapshot_7 N n x1 σ = some res → W p l e R s m args below meth c H locs cells slots (MQ below (Qd E R.cells R.slots none (twS h res S)) args s R.cells R.slots (fr E)) (F0 m 7 ls []) := by
  intro n
  induction n with
  | zero => intro x1 σ H locs cells slots ls I hl hf; exact nomatch (show none = some res from hf)
  | succ n ih =>
    intro x1 σ H locs cells slots ls I hl hf
    obtain ⟨⟨hx, hb, hml, hown, hts⟩, -⟩ := id X
    rw [fX4_saveSnapshot_7.eq_2] at hf
    refine lv_iload_n hx hb dX4_saveSnapshot_7 rfl (lv_at hl 1 rfl) ?_
    refine lv_sipush (v := 581) hx hb dX4_saveSnapshot_8 (by decide) ?_
    refine lv_icmp_ge (tgt := 32) hx hb dX4_saveSnapshot_11 (by decide) (fun c_11 => ?_) (fun c_11 => ?_)
    · have hf := ip c_11 hf
      refine lv_aload_n hx hb dX4_saveSnapshot_32 rfl (lv_at hl 0 rfl) ?_
      refine lv_iconst (v := 1) hx hb dX4_saveSnapshot_33 (by decide) ?_
      obtain ⟨σ_1, eσ_1, hf⟩ := ol hf
      refine tw_put X I 5 (ty := .boolean) (by decide) (by decide) rfl q2692 rfl rfl rfl rfl eσ_1 dX4_saveSnapshot_34 (fun H locs I => ?_)
      cases os hf
      exact r_vret X I dX4_saveSnapshot_37
    · have hf := im c_11 hf
      refine lv_aload_n hx hb dX4_saveSnapshot_14 rfl (lv_at hl 0 rfl) ?_
      refine tw_get X I 3 (v := .ref (h + 3)) (by decide) q2690 rfl dX4_saveSnapshot_15 ?_
      refine lv_iload_n hx hb dX4_saveSnapshot_18 rfl (lv_at hl 1 rfl) ?_
      refine lv_aload_n hx hb dX4_saveSnapshot_19 rfl (lv_at hl 0 rfl) ?_
      refine tw_get X I 1 (v := .ref (h + 1)) (by decide) q2688 rfl dX4_saveSnapshot_20 ?_
      refine lv_iload_n hx hb dX4_saveSnapshot_23 rfl (lv_at hl 1 rfl) ?_
      obtain ⟨v_2, ev_2, hf⟩ := ob hf
      refine tw_ald X I 1 (by decide) (by decide) (by decide) ev_2 dX4_saveSnapshot_24 ?_
      obtain ⟨σ_3, eσ_3, hf⟩ := ob hf
      refine tw_ast X I 3 (by decide) (by decide) (by decide) eσ_3 dX4_saveSnapshot_25 (fun H locs I => ?_)
      obtain ⟨x1_4, ex1_4, hf⟩ := ol hf
      refine lv_iinc (v := x1_4) (lv' := [(1, .int x1_4), (0, .ref h)]) hx hb dX4_saveSnapshot_26 hl (k := 1) rfl ex1_4 (by decide) rfl (fun ls hl => ?_)
      refine lv_goto (tgt := 7) hx hb dX4_saveSnapshot_29 (by decide) ?_
      exact ih _ _ _ _ _ _ _ I (lv_sub hl [1, 0] rfl) hf
theorem wX4_saveSnapshot_0 {E : EV} {l : Launch} {p : Program} {e : Env} {s : State} {m : MethodId} {args : Array Value} {below : List Frame} {meth : Method} {c : Code} {R : Room} {h : Nat} {S : St} {res : TS} (hR : 0 ≤ R.frames ∧ 0 ≤ R.locals) (X : MX E p s m args meth c cX4_saveSnapshot 2 none RX4 "saveSnapshot") (N : Nat) : ∀ (σ : TS) (H : Heap) (locs : List Loc) (cells slots : Nat) (ls : Array Slot), WI E R s (twS h σ S) H locs cells slots → lv_has ls 2 [(0, .ref h)] → fX4_saveSnapshot N σ = some res → W p l e R s m args below meth c H locs cells slots (MQ below (Qd E R.cells R.slots none (twS h res S)) args s R.cells R.slots (fr E)) (F0 m 0 ls []) := by
  intro σ H locs cells slots ls I hl hf
  obtain ⟨⟨hx, hb, hml, hown, hts⟩, -⟩ := id X
  unfold fX4_saveSnapshot at hf
  refine lv_aload_n hx hb dX4_saveSnapshot_0 rfl (lv_at hl 0 rfl) ?_
  refine lv_iconst (v := 0) hx hb dX4_saveSnapshot_1 (by decide) ?_
  obtain ⟨σ_5, eσ_5, hf⟩ := ol hf
  refine tw_put X I 0 (ty := .int) (by decide) (by decide) rfl q2687 rfl rfl rfl rfl eσ_5 dX4_saveSnapshot_2 (fun H locs I => ?_)
  refine lv_iconst (v := 0) hx hb dX4_saveSnapshot_5 (by decide) ?_
  refine lv_istore_n (lv' := [(1, .int (0 : Int32)), (0, .ref h)]) hx hb dX4_saveSnapshot_6 rfl hl (by decide) rfl (fun ls hl => ?_)
  exact wX4_saveSnapshot_7 hR X N N _ _ _ _ _ _ _ I (lv_sub hl [1, 0] rfl) hf
theorem mX4_saveSnapshot {E : EV} {l : Launch} {h : Nat} {S : St} {N : Nat} {σ : TS} {res : TS} (hE : EK E) (hf : fX4_saveSnapshot N σ = some res) : CM E l yX4_saveSnapshot (ws_ yX4_saveSnapshot cX4_saveSnapshot 2 none) 0 0 [.ref h] (twS h σ S) none (twS h res S) := by
  refine CM.of hE (by decide) rfl rfl (Nat.le_of_ble_eq_true rfl) ?_
  intro p e s m below meth c X I ls hl
  exact wX4_saveSnapshot_0 ⟨Nat.le_refl _, Nat.le_refl _⟩ X N _ _ _ _ _ _ I hl hf
/-! restoreSnapshot()Z -/
theorem wX4_restoreSnapshot_16 {E : EV} {l : Launch} {p : Program} {e : Env} {s : State} {m : MethodId} {args : Array Value} {below : List Frame} {meth : Method} {c : Code} {R : Room} {h : Nat} {S : St} {res : (Int32 × TS)} (hR : 0 ≤ R.frames ∧ 0 ≤ R.locals) (X : MX E p s m args meth c cX4_restoreSnapshot 2 (some .boolean) RX4 "restoreSnapshot") (N : Nat) : ∀ (n : Nat) (x1 : Int32) (σ : TS) (H : Heap) (locs : List Loc) (cells slots : Nat) (ls : Array Slot), WI E R s (twS h σ S) H locs cells slots → lv_has ls 2 [(0, .ref h), (1, .int x1)] → fX4_restoreSnapshot_16 N n x1 σ = some res → W p l e R s m args below meth c H locs cells slots (MQ below (Qd E R.cells R.slots (some (.int res.1)) (twS h res.2 S)) args s R.cells R.slots (fr E)) (F0 m 16 ls []) := by
  intro n
  induction n with
  | zero => intro x1 σ H locs cells slots ls I hl hf; exact nomatch (show none = some res from hf)
  | succ n ih =>
    intro x1 σ H locs cells slots ls I hl hf
    obtain ⟨⟨hx, hb, hml, hown, hts⟩, -⟩ := id X
    rw [fX4_restoreSnapshot_16.eq_2] at hf
    refine lv_iload_n hx hb dX4_restoreSnapshot_16 rfl (lv_at hl 1 rfl) ?_
    refine lv_sipush (v := 581) hx hb dX4_restoreSnapshot_17 (by decide) ?_
    refine lv_icmp_ge (tgt := 41) hx hb dX4_restoreSnapshot_20 (by decide) (fun c_20 => ?_) (fun c_20 => ?_)
    · have hf := ip c_20 hf
      refine lv_aload_n hx hb dX4_restoreSnapshot_41 rfl (lv_at hl 0 rfl) ?_
      refine lv_iconst (v := 0) hx hb dX4_restoreSnapshot_42 (by decide) ?_
      obtain ⟨σ_1, eσ_1, hf⟩ := ol hf
      refine tw_put X I 6 (ty := .int) (by decide) (by decide) rfl q2693 rfl rfl rfl rfl eσ_1 dX4_restoreSnapshot_43 (fun H locs I => ?_)
      refine lv_iconst (v := 1) hx hb dX4_restoreSnapshot_46 (by decide) ?_
      cases os hf
      exact r_zret X I (Or.inr rfl) dX4_restoreSnapshot_47
    · have hf := im c_20 hf
      refine lv_aload_n hx hb dX4_restoreSnapshot_23 rfl (lv_at hl 0 rfl) ?_
      refine tw_get X I 1 (v := .ref (h + 1)) (by decide) q2688 rfl dX4_restoreSnapshot_24 ?_
      refine lv_iload_n hx hb dX4_restoreSnapshot_27 rfl (lv_at hl 1 rfl) ?_
      refine lv_aload_n hx hb dX4_restoreSnapshot_28 rfl (lv_at hl 0 rfl) ?_
      refine tw_get X I 3 (v := .ref (h + 3)) (by decide) q2690 rfl dX4_restoreSnapshot_29 ?_
      refine lv_iload_n hx hb dX4_restoreSnapshot_32 rfl (lv_at hl 1 rfl) ?_
      obtain ⟨v_2, ev_2, hf⟩ := ob hf
      refine tw_ald X I 3 (by decide) (by decide) (by decide) ev_2 dX4_restoreSnapshot_33 ?_
      obtain ⟨σ_3, eσ_3, hf⟩ := ob hf
      refine tw_ast X I 1 (by decide) (by decide) (by decide) eσ_3 dX4_restoreSnapshot_34 (fun H locs I => ?_)
      obtain ⟨x1_4, ex1_4, hf⟩ := ol hf
      refine lv_iinc (v := x1_4) (lv' := [(1, .int x1_4), (0, .ref h)]) hx hb dX4_restoreSnapshot_35 hl (k := 1) rfl ex1_4 (by decide) rfl (fun ls hl => ?_)
      refine lv_goto (tgt := 16) hx hb dX4_restoreSnapshot_38 (by decide) ?_
      exact ih _ _ _ _ _ _ _ I (lv_sub hl [1, 0] rfl) hf
theorem wX4_restoreSnapshot_0 {E : EV} {l : Launch} {p : Program} {e : Env} {s : State} {m : MethodId} {args : Array Value} {below : List Frame} {meth : Method} {c : Code} {R : Room} {h : Nat} {S : St} {res : (Int32 × TS)} (hR : 0 ≤ R.frames ∧ 0 ≤ R.locals) (X : MX E p s m args meth c cX4_restoreSnapshot 2 (some .boolean) RX4 "restoreSnapshot") (N : Nat) : ∀ (σ : TS) (H : Heap) (locs : List Loc) (cells slots : Nat) (ls : Array Slot), WI E R s (twS h σ S) H locs cells slots → lv_has ls 2 [(0, .ref h)] → fX4_restoreSnapshot N σ = some res → W p l e R s m args below meth c H locs cells slots (MQ below (Qd E R.cells R.slots (some (.int res.1)) (twS h res.2 S)) args s R.cells R.slots (fr E)) (F0 m 0 ls []) := by
  intro σ H locs cells slots ls I hl hf
  obtain ⟨⟨hx, hb, hml, hown, hts⟩, -⟩ := id X
  unfold fX4_restoreSnapshot at hf
  refine lv_aload_n hx hb dX4_restoreSnapshot_0 rfl (lv_at hl 0 rfl) ?_
  refine lv_iconst (v := 0) hx hb dX4_restoreSnapshot_1 (by decide) ?_
  obtain ⟨σ_5, eσ_5, hf⟩ := ol hf
  refine tw_put X I 0 (ty := .int) (by decide) (by decide) rfl q2687 rfl rfl rfl rfl eσ_5 dX4_restoreSnapshot_2 (fun H locs I => ?_)
  refine lv_aload_n hx hb dX4_restoreSnapshot_5 rfl (lv_at hl 0 rfl) ?_
  refine tw_get X I 5 (v := .int (σ_5.1 0 5)) (by decide) q2692 rfl dX4_restoreSnapshot_6 ?_
  refine lv_if_ne (tgt := 14) hx hb dX4_restoreSnapshot_9 (by decide) (fun c_9 => ?_) (fun c_9 => ?_)
  · have hf := im c_9 hf
    refine lv_iconst (v := 0) hx hb dX4_restoreSnapshot_14 (by decide) ?_
    refine lv_istore_n (lv' := [(1, .int (0 : Int32)), (0, .ref h)]) hx hb dX4_restoreSnapshot_15 rfl hl (by decide) rfl (fun ls hl => ?_)
    exact wX4_restoreSnapshot_16 hR X N N _ _ _ _ _ _ _ I (lv_sub hl [1, 0] rfl) hf
  · have hf := ip c_9 hf
    refine lv_iconst (v := 0) hx hb dX4_restoreSnapshot_12 (by decide) ?_
    cases os hf
    exact r_zret X I (Or.inl rfl) dX4_restoreSnapshot_13
theorem mX4_restoreSnapshot {E : EV} {l : Launch} {h : Nat} {S : St} {N : Nat} {σ : TS} {res : (Int32 × TS)} (hE : EK E) (hf : fX4_restoreSnapshot N σ = some res) : CM E l yX4_restoreSnapshot (ws_ yX4_restoreSnapshot cX4_restoreSnapshot 2 (some .boolean)) 0 0 [.ref h] (twS h σ S) (some (.int res.1)) (twS h res.2 S) := by
  refine CM.of hE (by decide) rfl rfl (Nat.le_of_ble_eq_true rfl) ?_
  intro p e s m below meth c X I ls hl
  exact wX4_restoreSnapshot_0 ⟨Nat.le_refl _, Nat.le_refl _⟩ X N _ _ _ _ _ _ I hl hf
/-! says(I)V -/
theorem lvX4_says : GoodIn lw_all (wsV RX4 426 RX4 yX4_says (ws_ yX4_says cX4_says 2 none)) := lw_V q3251 q3253 qs99 q120 q3254
theorem hdX4_says : yX4_says.cls = RX4 ∧ yX4_says.cls ≠ "java/lang/invoke/MethodHandle" ∧ yX4_says.cls ≠ "java/lang/invoke/VarHandle" ∧ (parseMethodDescriptor yX4_says.desc).map (fun d => d.parameters.length) = some 1 := by decide +kernel
theorem wX4_says_0 {E : EV} {l : Launch} {p : Program} {e : Env} {s : State} {m : MethodId} {args : Array Value} {below : List Frame} {meth : Method} {c : Code} {R : Room} {h : Nat} {S : St} {res : TS} (hR : 0 ≤ R.frames ∧ 0 ≤ R.locals) (X : MX E p s m args meth c cX4_says 2 none RX4 "says") : ∀ (x1 : Int32) (σ : TS) (H : Heap) (locs : List Loc) (cells slots : Nat) (ls : Array Slot), WI E R s (twS h σ S) H locs cells slots → lv_has ls 2 [(0, .ref h), (1, .int x1)] → fX4_says σ x1 = some res → W p l e R s m args below meth c H locs cells slots (MQ below (Qd E R.cells R.slots none (twS h res S)) args s R.cells R.slots (fr E)) (F0 m 0 ls []) := by
  intro x1 σ H locs cells slots ls I hl hf
  obtain ⟨⟨hx, hb, hml, hown, hts⟩, -⟩ := id X
  unfold fX4_says at hf
  refine lv_aload_n hx hb dX4_says_0 rfl (lv_at hl 0 rfl) ?_
  refine tw_get X I 46 (v := .ref (h + 21)) (by decide) q2733 rfl dX4_says_1 ?_
  refine lv_aload_n hx hb dX4_says_4 rfl (lv_at hl 0 rfl) ?_
  refine tw_get X I 47 (v := .int (σ.1 0 47)) (by decide) q2734 rfl dX4_says_5 ?_
  refine lv_iload_n hx hb dX4_says_8 rfl (lv_at hl 1 rfl) ?_
  refine lv_i2b hx hb dX4_says_9 rfl ?_
  obtain ⟨σ_1, eσ_1, hf⟩ := ob hf
  refine tw_bast X I rfl eσ_1 dX4_says_10 (fun H locs I => ?_)
  refine lv_aload_n hx hb dX4_says_11 rfl (lv_at hl 0 rfl) ?_
  refine lv_dup hx hb dX4_says_12 rfl ?_
  refine tw_get X I 47 (v := .int (σ_1.1 0 47)) (by decide) q2734 rfl dX4_says_13 ?_
  refine lv_iconst (v := 1) hx hb dX4_says_16 (by decide) ?_
  refine lv_iadd hx hb dX4_says_17 ?_
  obtain ⟨σ_2, eσ_2, hf⟩ := ol hf
  refine tw_put X I 47 (ty := .int) (by decide) (by decide) rfl q2734 rfl rfl rfl rfl eσ_2 dX4_says_18 (fun H locs I => ?_)
  cases os hf
  exact r_vret X I dX4_says_21
theorem mX4_says {E : EV} {l : Launch} {h : Nat} {S : St} {σ : TS} {x1 : Int32} {res : TS} (hE : EK E) (hf : fX4_says σ x1 = some res) : CM E l yX4_says (ws_ yX4_says cX4_says 2 none) 0 0 [.ref h, .int x1] (twS h σ S) none (twS h res S) := by
  refine CM.of hE (by decide) rfl rfl (Nat.le_of_ble_eq_true rfl) ?_
  intro p e s m below meth c X I ls hl
  exact wX4_says_0 ⟨Nat.le_refl _, Nat.le_refl _⟩ X _ _ _ _ _ _ _ I hl hf
/-! saysNumber(I)V -/
theorem lvX4_saysNumber : GoodIn lw_all (wsV RX4 429 RX4 yX4_saysNumber (ws_ yX4_saysNumber cX4_saysNumber 3 none)) := lw_V q3255 q3257 qs100 q120 q3258
theorem hdX4_saysNumber : yX4_saysNumber.cls = RX4 ∧ yX4_saysNumber.cls ≠ "java/lang/invoke/MethodHandle" ∧ yX4_saysNumber.cls ≠ "java/lang/invoke/VarHandle" ∧ (parseMethodDescriptor yX4_saysNumber.desc).map (fun d => d.parameters.length) = some 1 := by decide +kernel
theorem wX4_saysNumber_18 {E : EV} {l : Launch} {p : Program} {e : Env} {s : State} {m : MethodId} {args : Array Value} {below : List Frame} {meth : Method} {c : Code} {R : Room} {h : Nat} {S : St} {res : TS} (hR : 1 ≤ R.frames ∧ 21 ≤ R.locals) (X : MX E p s m args meth c cX4_saysNumber 3 none RX4 "saysNumber") (N : Nat) : ∀ (n : Nat) (x1 : Int32) (x2 : Int32) (σ : TS) (H : Heap) (locs : List Loc) (cells slots : Nat) (ls : Array Slot), WI E R s (twS h σ S) H locs cells slots → lv_has ls 3 [(0, .ref h), (1, .int x1), (2, .int x2)] → fX4_saysNumber_18 N n x1 x2 σ = some res → W p l e R s m args below meth c H locs cells slots (MQ below (Qd E R.cells R.slots none (twS h res S)) args s R.cells R.slots (fr E)) (F0 m 18 ls []) := by
  intro n
  induction n with
  | zero => intro x1 x2 σ H locs cells slots ls I hl hf; exact nomatch (show none = some res from hf)
  | succ n ih =>
    intro x1 x2 σ H locs cells slots ls I hl hf
    obtain ⟨⟨hx, hb, hml, hown, hts⟩, -⟩ := id X
    rw [fX4_saysNumber_18.eq_2] at hf
    refine lv_iload_n hx hb dX4_saysNumber_18 rfl (lv_at hl 2 rfl) ?_
    refine lv_if_le (tgt := 43) hx hb dX4_saysNumber_19 (by decide) (fun c_19 => ?_) (fun c_19 => ?_)
    · have hf := ip c_19 hf
      cases os hf
      exact r_vret X I dX4_saysNumber_43
    · have hf := im c_19 hf
      refine lv_aload_n hx hb dX4_saysNumber_22 rfl (lv_at hl 0 rfl) ?_
      refine lv_bipush (v := 48) hx hb dX4_saysNumber_23 (by decide) ?_
      refine lv_iload_n hx hb dX4_saysNumber_25 rfl (lv_at hl 1 rfl) ?_
      refine lv_iload_n hx hb dX4_saysNumber_26 rfl (lv_at hl 2 rfl) ?_
      by_cases c_27 : x2 = 0
      · rw [if_pos c_27] at hf; cases hf
      have hf := im c_27 hf
      refine lv_idiv hx hb dX4_saysNumber_27 c_27 ?_
      refine lv_bipush (v := 10) hx hb dX4_saysNumber_28 (by decide) ?_
      refine lv_irem hx hb dX4_saysNumber_30 (by decide) ?_
      refine lv_iadd hx hb dX4_saysNumber_31 ?_
      obtain ⟨σ_2, eσ_2, hf⟩ := ob hf
      refine tw_V none (rs := []) (rest := []) (As := [.int ((48 : Int32) + ((x1 / x2) - (x1 / x2) / (10 : Int32) * (10 : Int32)))]) X I (mX4_says X.2.2.2.2.1 eσ_2) lvX4_says hdX4_says ⟨Nat.le_trans (Nat.le_of_ble_eq_true rfl) hR.1, Nat.le_trans (Nat.le_of_ble_eq_true rfl) hR.2⟩ rfl hl.1 rfl (Nat.le_of_ble_eq_true rfl) rfl dX4_saysNumber_32 (fun H locs cells slots I => ?_)
      refine lv_iload_n hx hb dX4_saysNumber_35 rfl (lv_at hl 2 rfl) ?_
      refine lv_bipush (v := 10) hx hb dX4_saysNumber_36 (by decide) ?_
      refine lv_idiv hx hb dX4_saysNumber_38 (by decide) ?_
      obtain ⟨x2_3, ex2_3, hf⟩ := ol hf
      refine nm_i ex2_3 ?_
      refine lv_istore_n (lv' := [(2, .int x2_3), (0, .ref h), (1, .int x1)]) hx hb dX4_saysNumber_39 rfl hl (by decide) rfl (fun ls hl => ?_)
      refine lv_goto (tgt := 18) hx hb dX4_saysNumber_40 (by decide) ?_
      exact ih _ _ _ _ _ _ _ _ I (lv_sub hl [1, 2, 0] rfl) hf
theorem wX4_saysNumber_2 {E : EV} {l : Launch} {p : Program} {e : Env} {s : State} {m : MethodId} {args : Array Value} {below : List Frame} {meth : Method} {c : Code} {R : Room} {h : Nat} {S : St} {res : TS} (hR : 1 ≤ R.frames ∧ 21 ≤ R.locals) (X : MX E p s m args meth c cX4_saysNumber 3 none RX4 "saysNumber") (N : Nat) : ∀ (n : Nat) (x1 : Int32) (x2 : Int32) (σ : TS) (H : Heap) (locs : List Loc) (cells slots : Nat) (ls : Array Slot), WI E R s (twS h σ S) H locs cells slots → lv_has ls 3 [(0, .ref h), (1, .int x1), (2, .int x2)] → fX4_saysNumber_2 N n x1 x2 σ = some res → W p l e R s m args below meth c H locs cells slots (MQ below (Qd E R.cells R.slots none (twS h res S)) args s R.cells R.slots (fr E)) (F0 m 2 ls []) := by
  intro n
  induction n with
  | zero => intro x1 x2 σ H locs cells slots ls I hl hf; exact nomatch (show none = some res from hf)
  | succ n ih =>
    intro x1 x2 σ H locs cells slots ls I hl hf
    obtain ⟨⟨hx, hb, hml, hown, hts⟩, -⟩ := id X
    rw [fX4_saysNumber_2.eq_2] at hf
    refine lv_iload_n hx hb dX4_saysNumber_2 rfl (lv_at hl 1 rfl) ?_
    refine lv_iload_n hx hb dX4_saysNumber_3 rfl (lv_at hl 2 rfl) ?_
    by_cases c_4 : x2 = 0
    · rw [if_pos c_4] at hf; cases hf
    have hf := im c_4 hf
    refine lv_idiv hx hb dX4_saysNumber_4 c_4 ?_
    refine lv_bipush (v := 9) hx hb dX4_saysNumber_5 (by decide) ?_
    refine lv_icmp_le (tgt := 18) hx hb dX4_saysNumber_7 (by decide) (fun c_7 => ?_) (fun c_7 => ?_)
    · have hf := ip c_7 hf
      exact wX4_saysNumber_18 hR X N N _ _ _ _ _ _ _ _ I (lv_sub hl [0, 1, 2] rfl) hf
    · have hf := im c_7 hf
      refine lv_iload_n hx hb dX4_saysNumber_10 rfl (lv_at hl 2 rfl) ?_
      refine lv_bipush (v := 10) hx hb dX4_saysNumber_11 (by decide) ?_
      refine lv_imul hx hb dX4_saysNumber_13 ?_
      obtain ⟨x2_4, ex2_4, hf⟩ := ol hf
      refine nm_i ex2_4 ?_
      refine lv_istore_n (lv' := [(2, .int x2_4), (0, .ref h), (1, .int x1)]) hx hb dX4_saysNumber_14 rfl hl (by decide) rfl (fun ls hl => ?_)
      refine lv_goto (tgt := 2) hx hb dX4_saysNumber_15 (by decide) ?_
      exact ih _ _ _ _ _ _ _ _ I (lv_sub hl [1, 2, 0] rfl) hf
theorem wX4_saysNumber_0 {E : EV} {l : Launch} {p : Program} {e : Env} {s : State} {m : MethodId} {args : Array Value} {below : List Frame} {meth : Method} {c : Code} {R : Room} {h : Nat} {S : St} {res : TS} (hR : 1 ≤ R.frames ∧ 21 ≤ R.locals) (X : MX E p s m args meth c cX4_saysNumber 3 none RX4 "saysNumber") (N : Nat) : ∀ (x1 : Int32) (σ : TS) (H : Heap) (locs : List Loc) (cells slots : Nat) (ls : Array Slot), WI E R s (twS h σ S) H locs cells slots → lv_has ls 3 [(0, .ref h), (1, .int x1)] → fX4_saysNumber N σ x1 = some res → W p l e R s m args below meth c H locs cells slots (MQ below (Qd E R.cells R.slots none (twS h res S)) args s R.cells R.slots (fr E)) (F0 m 0 ls []) := by
  intro x1 σ H locs cells slots ls I hl hf
  obtain ⟨⟨hx, hb, hml, hown, hts⟩, -⟩ := id X
  unfold fX4_saysNumber at hf
  refine lv_iconst (v := 1) hx hb dX4_saysNumber_0 (by decide) ?_
  refine lv_istore_n (lv' := [(2, .int (1 : Int32)), (0, .ref h), (1, .int x1)]) hx hb dX4_saysNumber_1 rfl hl (by decide) rfl (fun ls hl => ?_)
  exact wX4_saysNumber_2 hR X N N _ _ _ _ _ _ _ _ I (lv_sub hl [1, 2, 0] rfl) hf
theorem mX4_saysNumber {E : EV} {l : Launch} {h : Nat} {S : St} {N : Nat} {σ : TS} {x1 : Int32} {res : TS} (hE : EK E) (hf : fX4_saysNumber N σ x1 = some res) : CM E l yX4_saysNumber (ws_ yX4_saysNumber cX4_saysNumber 3 none) 1 21 [.ref h, .int x1] (twS h σ S) none (twS h res S) := by
  refine CM.of hE (by decide) rfl rfl (Nat.le_of_ble_eq_true rfl) ?_
  intro p e s m below meth c X I ls hl
  exact wX4_saysNumber_0 ⟨Nat.le_refl _, Nat.le_refl _⟩ X N _ _ _ _ _ _ _ I hl hf
