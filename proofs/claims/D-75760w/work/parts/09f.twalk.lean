set_option maxRecDepth 100000
/-! format(I)I -/
theorem wX4_format_78 {E : EV} {l : Launch} {p : Program} {e : Env} {s : State} {m : MethodId} {args : Array Value} {below : List Frame} {meth : Method} {c : Code} {R : Room} {h : Nat} {S : St} {res : (Int32 × TS)} (hR : 2 ≤ R.frames ∧ 46 ≤ R.locals) (X : MX E p s m args meth c cX4_format 3 (some .int) RX4 "format") (N : Nat) (r40 : Int32 → TS → Option (Int32 × TS)) (hr40 : ∀ (x2 : Int32) (σ : TS) (H : Heap) (locs : List Loc) (cells slots : Nat) (ls : Array Slot), WI E R s (twS h σ S) H locs cells slots → lv_has ls 3 [(0, .ref h), (2, .int x2)] → r40 x2 σ = some res → W p l e R s m args below meth c H locs cells slots (MQ below (Qd E R.cells R.slots (some (.int res.1)) (twS h res.2 S)) args s R.cells R.slots (fr E)) (F0 m 40 ls [])) : ∀ (x2 : Int32) (y1 : Int32) (σ : TS) (H : Heap) (locs : List Loc) (cells slots : Nat) (ls : Array Slot), WI E R s (twS h σ S) H locs cells slots → lv_has ls 3 [(0, .ref h), (2, .int x2)] → fX4_format_78 N r40 x2 y1 σ = some res → W p l e R s m args below meth c H locs cells slots (MQ below (Qd E R.cells R.slots (some (.int res.1)) (twS h res.2 S)) args s R.cells R.slots (fr E)) (F0 m 78 ls [.int y1, .ref h]) := by
  intro x2 y1 σ H locs cells slots ls I hl hf
  obtain ⟨⟨hx, hb, hml, hown, hts⟩, -⟩ := id X
  unfold fX4_format_78 at hf
  obtain ⟨σ_2, eσ_2, hf⟩ := ob hf
  refine tw_V none (rs := []) (rest := []) (As := [.int y1]) X I (mX4_says X.2.2.2.2.1 eσ_2) lvX4_says hdX4_says ⟨Nat.le_trans (Nat.le_of_ble_eq_true rfl) hR.1, Nat.le_trans (Nat.le_of_ble_eq_true rfl) hR.2⟩ rfl hl.1 rfl (Nat.le_of_ble_eq_true rfl) rfl dX4_format_78 (fun H locs cells slots I => ?_)
  refine lv_aload_n hx hb dX4_format_81 rfl (lv_at hl 0 rfl) ?_
  refine lv_aload_n hx hb dX4_format_82 rfl (lv_at hl 0 rfl) ?_
  refine tw_get X I 32 (v := .ref (h + 13)) (by decide) q2719 rfl dX4_format_83 ?_
  refine lv_iload_n hx hb dX4_format_86 rfl (lv_at hl 1 rfl) ?_
  obtain ⟨v_3, ev_3, hf⟩ := ob hf
  refine tw_ald X I 13 (by decide) (by decide) (by decide) ev_3 dX4_format_87 ?_
  refine lv_iconst (v := 2) hx hb dX4_format_88 (by decide) ?_
  refine lv_idiv hx hb dX4_format_89 (by decide) ?_
  obtain ⟨σ_5, eσ_5, hf⟩ := ob hf
  refine tw_V none (rs := []) (rest := []) (As := [.int (v_3 / (2 : Int32))]) X I (mX4_saysNumber X.2.2.2.2.1 eσ_5) lvX4_saysNumber hdX4_saysNumber ⟨Nat.le_trans (Nat.le_of_ble_eq_true rfl) hR.1, Nat.le_trans (Nat.le_of_ble_eq_true rfl) hR.2⟩ rfl hl.1 rfl (Nat.le_of_ble_eq_true rfl) rfl dX4_format_90 (fun H locs cells slots I => ?_)
  refine lv_aload_n hx hb dX4_format_93 rfl (lv_at hl 0 rfl) ?_
  refine lv_bipush (v := 64) hx hb dX4_format_94 (by decide) ?_
  obtain ⟨σ_7, eσ_7, hf⟩ := ob hf
  refine tw_V none (rs := []) (rest := []) (As := [.int (64 : Int32)]) X I (mX4_says X.2.2.2.2.1 eσ_7) lvX4_says hdX4_says ⟨Nat.le_trans (Nat.le_of_ble_eq_true rfl) hR.1, Nat.le_trans (Nat.le_of_ble_eq_true rfl) hR.2⟩ rfl hl.1 rfl (Nat.le_of_ble_eq_true rfl) rfl dX4_format_96 (fun H locs cells slots I => ?_)
  refine lv_aload_n hx hb dX4_format_99 rfl (lv_at hl 0 rfl) ?_
  refine lv_aload_n hx hb dX4_format_100 rfl (lv_at hl 0 rfl) ?_
  refine lv_aload_n hx hb dX4_format_101 rfl (lv_at hl 0 rfl) ?_
  refine tw_get X I 32 (v := .ref (h + 13)) (by decide) q2719 rfl dX4_format_102 ?_
  refine lv_iload_n hx hb dX4_format_105 rfl (lv_at hl 1 rfl) ?_
  obtain ⟨v_8, ev_8, hf⟩ := ob hf
  refine tw_ald X I 13 (by decide) (by decide) (by decide) ev_8 dX4_format_106 ?_
  obtain ⟨v_9, ev_9, hf⟩ := ob hf
  refine tw_V (some (.int v_9)) (rs := [.int v_9, .ref h]) (rest := [.ref h]) (As := [.int v_8]) X I (mX4_zoneOf X.2.2.2.2.1 ev_9) lvX4_zoneOf hdX4_zoneOf ⟨Nat.le_trans (Nat.le_of_ble_eq_true rfl) hR.1, Nat.le_trans (Nat.le_of_ble_eq_true rfl) hR.2⟩ rfl hl.1 rfl (Nat.le_of_ble_eq_true rfl) rfl dX4_format_107 (fun H locs cells slots I => ?_)
  obtain ⟨σ_12, eσ_12, hf⟩ := ob hf
  refine tw_V none (rs := []) (rest := []) (As := [.int v_9]) X I (mX4_saysNumber X.2.2.2.2.1 eσ_12) lvX4_saysNumber hdX4_saysNumber ⟨Nat.le_trans (Nat.le_of_ble_eq_true rfl) hR.1, Nat.le_trans (Nat.le_of_ble_eq_true rfl) hR.2⟩ rfl hl.1 rfl (Nat.le_of_ble_eq_true rfl) rfl dX4_format_110 (fun H locs cells slots I => ?_)
  obtain ⟨x2_13, ex2_13, hf⟩ := ol hf
  refine lv_iinc (v := x2_13) (lv' := [(2, .int x2_13), (0, .ref h)]) hx hb dX4_format_113 hl (k := 1) rfl ex2_13 (by decide) rfl (fun ls hl => ?_)
  refine lv_goto (tgt := 40) hx hb dX4_format_116 (by decide) ?_
  exact hr40 _ _ _ _ _ _ _ I (lv_sub hl [1, 0] rfl) hf
theorem wX4_format_58 {E : EV} {l : Launch} {p : Program} {e : Env} {s : State} {m : MethodId} {args : Array Value} {below : List Frame} {meth : Method} {c : Code} {R : Room} {h : Nat} {S : St} {res : (Int32 × TS)} (hR : 2 ≤ R.frames ∧ 46 ≤ R.locals) (X : MX E p s m args meth c cX4_format 3 (some .int) RX4 "format") (N : Nat) (r40 : Int32 → TS → Option (Int32 × TS)) (hr40 : ∀ (x2 : Int32) (σ : TS) (H : Heap) (locs : List Loc) (cells slots : Nat) (ls : Array Slot), WI E R s (twS h σ S) H locs cells slots → lv_has ls 3 [(0, .ref h), (2, .int x2)] → r40 x2 σ = some res → W p l e R s m args below meth c H locs cells slots (MQ below (Qd E R.cells R.slots (some (.int res.1)) (twS h res.2 S)) args s R.cells R.slots (fr E)) (F0 m 40 ls [])) : ∀ (x2 : Int32) (σ : TS) (H : Heap) (locs : List Loc) (cells slots : Nat) (ls : Array Slot), WI E R s (twS h σ S) H locs cells slots → lv_has ls 3 [(0, .ref h), (2, .int x2)] → fX4_format_58 N r40 x2 σ = some res → W p l e R s m args below meth c H locs cells slots (MQ below (Qd E R.cells R.slots (some (.int res.1)) (twS h res.2 S)) args s R.cells R.slots (fr E)) (F0 m 58 ls []) := by
  intro x2 σ H locs cells slots ls I hl hf
  obtain ⟨⟨hx, hb, hml, hown, hts⟩, -⟩ := id X
  unfold fX4_format_58 at hf
  refine lv_aload_n hx hb dX4_format_58 rfl (lv_at hl 0 rfl) ?_
  refine lv_aload_n hx hb dX4_format_59 rfl (lv_at hl 0 rfl) ?_
  refine tw_get X I 32 (v := .ref (h + 13)) (by decide) q2719 rfl dX4_format_60 ?_
  refine lv_iload_n hx hb dX4_format_63 rfl (lv_at hl 1 rfl) ?_
  obtain ⟨v_14, ev_14, hf⟩ := ob hf
  refine tw_ald X I 13 (by decide) (by decide) (by decide) ev_14 dX4_format_64 ?_
  refine lv_iconst (v := 1) hx hb dX4_format_65 (by decide) ?_
  refine lv_iand hx hb dX4_format_66 ?_
  refine lv_iconst (v := 1) hx hb dX4_format_67 (by decide) ?_
  refine lv_icmp_ne (tgt := 76) hx hb dX4_format_68 (by decide) (fun c_68 => ?_) (fun c_68 => ?_)
  · have hf := im c_68 hf
    refine lv_bipush (v := 45) hx hb dX4_format_76 (by decide) ?_
    exact wX4_format_78 hR X N r40 hr40 _ _ _ _ _ _ _ _ I (lv_sub hl [0, 1] rfl) hf
  · have hf := ip c_68 hf
    refine lv_bipush (v := 43) hx hb dX4_format_71 (by decide) ?_
    refine lv_goto (tgt := 78) hx hb dX4_format_73 (by decide) ?_
    exact wX4_format_78 hR X N r40 hr40 _ _ _ _ _ _ _ _ I (lv_sub hl [0, 1] rfl) hf
theorem wX4_format_40 {E : EV} {l : Launch} {p : Program} {e : Env} {s : State} {m : MethodId} {args : Array Value} {below : List Frame} {meth : Method} {c : Code} {R : Room} {h : Nat} {S : St} {res : (Int32 × TS)} (hR : 2 ≤ R.frames ∧ 46 ≤ R.locals) (X : MX E p s m args meth c cX4_format 3 (some .int) RX4 "format") (N : Nat) : ∀ (n : Nat) (x2 : Int32) (σ : TS) (H : Heap) (locs : List Loc) (cells slots : Nat) (ls : Array Slot), WI E R s (twS h σ S) H locs cells slots → lv_has ls 3 [(0, .ref h), (2, .int x2)] → fX4_format_40 N n x2 σ = some res → W p l e R s m args below meth c H locs cells slots (MQ below (Qd E R.cells R.slots (some (.int res.1)) (twS h res.2 S)) args s R.cells R.slots (fr E)) (F0 m 40 ls []) := by
  intro n
  induction n with
  | zero => intro x2 σ H locs cells slots ls I hl hf; exact nomatch (show none = some res from hf)
  | succ n ih =>
    intro x2 σ H locs cells slots ls I hl hf
    obtain ⟨⟨hx, hb, hml, hown, hts⟩, -⟩ := id X
    rw [fX4_format_40.eq_2] at hf
    refine lv_iload_n hx hb dX4_format_40 rfl (lv_at hl 1 rfl) ?_
    refine lv_aload_n hx hb dX4_format_41 rfl (lv_at hl 0 rfl) ?_
    refine tw_get X I 39 (v := .int (σ.1 0 39)) (by decide) q2726 rfl dX4_format_42 ?_
    refine lv_icmp_ge (tgt := 119) hx hb dX4_format_45 (by decide) (fun c_45 => ?_) (fun c_45 => ?_)
    · have hf := ip c_45 hf
      refine lv_aload_n hx hb dX4_format_119 rfl (lv_at hl 0 rfl) ?_
      refine tw_get X I 47 (v := .int (σ.1 0 47)) (by decide) q2734 rfl dX4_format_120 ?_
      cases os hf
      exact r_iret X I dX4_format_123
    · have hf := im c_45 hf
      refine lv_iload_n hx hb dX4_format_48 rfl (lv_at hl 1 rfl) ?_
      refine lv_if_le (tgt := 58) hx hb dX4_format_49 (by decide) (fun c_49 => ?_) (fun c_49 => ?_)
      · have hf := ip c_49 hf
        exact wX4_format_58 hR X N (fX4_format_40 N n) ih _ _ _ _ _ _ _ I (lv_sub hl [0, 1] rfl) hf
      · have hf := im c_49 hf
        refine lv_aload_n hx hb dX4_format_52 rfl (lv_at hl 0 rfl) ?_
        refine lv_bipush (v := 32) hx hb dX4_format_53 (by decide) ?_
        obtain ⟨σ_16, eσ_16, hf⟩ := ob hf
        refine tw_V none (rs := []) (rest := []) (As := [.int (32 : Int32)]) X I (mX4_says X.2.2.2.2.1 eσ_16) lvX4_says hdX4_says ⟨Nat.le_trans (Nat.le_of_ble_eq_true rfl) hR.1, Nat.le_trans (Nat.le_of_ble_eq_true rfl) hR.2⟩ rfl hl.1 rfl (Nat.le_of_ble_eq_true rfl) rfl dX4_format_55 (fun H locs cells slots I => ?_)
        exact wX4_format_58 hR X N (fX4_format_40 N n) ih _ _ _ _ _ _ _ I (lv_sub hl [0, 1] rfl) hf
theorem wX4_format_38 {E : EV} {l : Launch} {p : Program} {e : Env} {s : State} {m : MethodId} {args : Array Value} {below : List Frame} {meth : Method} {c : Code} {R : Room} {h : Nat} {S : St} {res : (Int32 × TS)} (hR : 2 ≤ R.frames ∧ 46 ≤ R.locals) (X : MX E p s m args meth c cX4_format 3 (some .int) RX4 "format") (N : Nat) : ∀ (σ : TS) (H : Heap) (locs : List Loc) (cells slots : Nat) (ls : Array Slot), WI E R s (twS h σ S) H locs cells slots → lv_has ls 3 [(0, .ref h)] → fX4_format_38 N σ = some res → W p l e R s m args below meth c H locs cells slots (MQ below (Qd E R.cells R.slots (some (.int res.1)) (twS h res.2 S)) args s R.cells R.slots (fr E)) (F0 m 38 ls []) := by
  intro σ H locs cells slots ls I hl hf
  obtain ⟨⟨hx, hb, hml, hown, hts⟩, -⟩ := id X
  unfold fX4_format_38 at hf
  refine lv_iconst (v := 0) hx hb dX4_format_38 (by decide) ?_
  refine lv_istore_n (lv' := [(2, .int (0 : Int32)), (0, .ref h)]) hx hb dX4_format_39 rfl hl (by decide) rfl (fun ls hl => ?_)
  exact wX4_format_40 hR X N N _ _ _ _ _ _ _ I (lv_sub hl [1, 0] rfl) hf
theorem wX4_format_0 {E : EV} {l : Launch} {p : Program} {e : Env} {s : State} {m : MethodId} {args : Array Value} {below : List Frame} {meth : Method} {c : Code} {R : Room} {h : Nat} {S : St} {res : (Int32 × TS)} (hR : 2 ≤ R.frames ∧ 46 ≤ R.locals) (X : MX E p s m args meth c cX4_format 3 (some .int) RX4 "format") (N : Nat) : ∀ (x1 : Int32) (σ : TS) (H : Heap) (locs : List Loc) (cells slots : Nat) (ls : Array Slot), WI E R s (twS h σ S) H locs cells slots → lv_has ls 3 [(0, .ref h), (1, .int x1)] → fX4_format N σ x1 = some res → W p l e R s m args below meth c H locs cells slots (MQ below (Qd E R.cells R.slots (some (.int res.1)) (twS h res.2 S)) args s R.cells R.slots (fr E)) (F0 m 0 ls []) := by
  intro x1 σ H locs cells slots ls I hl hf
  obtain ⟨⟨hx, hb, hml, hown, hts⟩, -⟩ := id X
  unfold fX4_format at hf
  refine lv_aload_n hx hb dX4_format_0 rfl (lv_at hl 0 rfl) ?_
  refine lv_iconst (v := 0) hx hb dX4_format_1 (by decide) ?_
  obtain ⟨σ_17, eσ_17, hf⟩ := ol hf
  refine tw_put X I 0 (ty := .int) (by decide) (by decide) rfl q2687 rfl rfl rfl rfl eσ_17 dX4_format_2 (fun H locs I => ?_)
  refine lv_aload_n hx hb dX4_format_5 rfl (lv_at hl 0 rfl) ?_
  refine lv_iload_n hx hb dX4_format_6 rfl (lv_at hl 1 rfl) ?_
  obtain ⟨v_18, ev_18, hf⟩ := ob hf
  refine tw_V (some (.int v_18.1)) (rs := [.int v_18.1]) (rest := []) (As := [.int x1]) X I (mX4_noTaxi X.2.2.2.2.1 ev_18) lvX4_noTaxi hdX4_noTaxi ⟨Nat.le_trans (Nat.le_of_ble_eq_true rfl) hR.1, Nat.le_trans (Nat.le_of_ble_eq_true rfl) hR.2⟩ rfl hl.1 rfl (Nat.le_of_ble_eq_true rfl) rfl dX4_format_7 (fun H locs cells slots I => ?_)
  refine lv_if_eq (tgt := 15) hx hb dX4_format_10 (by decide) (fun c_10 => ?_) (fun c_10 => ?_)
  · have hf := ip c_10 hf
    refine lv_aload_n hx hb dX4_format_15 rfl (lv_at hl 0 rfl) ?_
    refine lv_iconst (v := 0) hx hb dX4_format_16 (by decide) ?_
    obtain ⟨σ_20, eσ_20, hf⟩ := ol hf
    refine tw_put X I 47 (ty := .int) (by decide) (by decide) rfl q2734 rfl rfl rfl rfl eσ_20 dX4_format_17 (fun H locs I => ?_)
    refine lv_aload_n hx hb dX4_format_20 rfl (lv_at hl 0 rfl) ?_
    refine lv_iload_n hx hb dX4_format_21 rfl (lv_at hl 1 rfl) ?_
    obtain ⟨σ_22, eσ_22, hf⟩ := ob hf
    refine tw_V none (rs := []) (rest := []) (As := [.int x1]) X I (mX4_lists X.2.2.2.2.1 eσ_22) lvX4_lists hdX4_lists ⟨Nat.le_trans (Nat.le_of_ble_eq_true rfl) hR.1, Nat.le_trans (Nat.le_of_ble_eq_true rfl) hR.2⟩ rfl hl.1 rfl (Nat.le_of_ble_eq_true rfl) rfl dX4_format_22 (fun H locs cells slots I => ?_)
    refine lv_aload_n hx hb dX4_format_25 rfl (lv_at hl 0 rfl) ?_
    refine tw_get X I 39 (v := .int (σ_22.1 0 39)) (by decide) q2726 rfl dX4_format_26 ?_
    refine lv_if_ne (tgt := 38) hx hb dX4_format_29 (by decide) (fun c_29 => ?_) (fun c_29 => ?_)
    · have hf := im c_29 hf
      exact wX4_format_38 hR X N _ _ _ _ _ _ I (lv_sub hl [0] rfl) hf
    · have hf := ip c_29 hf
      refine lv_aload_n hx hb dX4_format_32 rfl (lv_at hl 0 rfl) ?_
      refine lv_bipush (v := 46) hx hb dX4_format_33 (by decide) ?_
      obtain ⟨σ_24, eσ_24, hf⟩ := ob hf
      refine tw_V none (rs := []) (rest := []) (As := [.int (46 : Int32)]) X I (mX4_says X.2.2.2.2.1 eσ_24) lvX4_says hdX4_says ⟨Nat.le_trans (Nat.le_of_ble_eq_true rfl) hR.1, Nat.le_trans (Nat.le_of_ble_eq_true rfl) hR.2⟩ rfl hl.1 rfl (Nat.le_of_ble_eq_true rfl) rfl dX4_format_35 (fun H locs cells slots I => ?_)
      exact wX4_format_38 hR X N _ _ _ _ _ _ I (lv_sub hl [0] rfl) hf
  · have hf := im c_10 hf
    refine lv_iconst (v := 0) hx hb dX4_format_13 (by decide) ?_
    cases os hf
    exact r_iret X I dX4_format_14
theorem mX4_format {E : EV} {l : Launch} {h : Nat} {S : St} {N : Nat} {σ : TS} {x1 : Int32} {res : (Int32 × TS)} (hE : EK E) (hf : fX4_format N σ x1 = some res) : CM E l yX4_format (ws_ yX4_format cX4_format 3 (some .int)) 2 46 [.ref h, .int x1] (twS h σ S) (some (.int res.1)) (twS h res.2 S) := by
  refine CM.of hE (by decide) rfl rfl (Nat.le_of_ble_eq_true rfl) ?_
  intro p e s m below meth c X I ls hl
  exact wX4_format_0 ⟨Nat.le_refl _, Nat.le_refl _⟩ X N _ _ _ _ _ _ _ I hl hf
/-! formattedByte(I)I -/
theorem wX4_formattedByte_0 {E : EV} {l : Launch} {p : Program} {e : Env} {s : State} {m : MethodId} {args : Array Value} {below : List Frame} {meth : Method} {c : Code} {R : Room} {h : Nat} {S : St} {res : (Int32 × TS)} (hR : 1 ≤ R.frames ∧ 25 ≤ R.locals) (X : MX E p s m args meth c cX4_formattedByte 2 (some .int) RX4 "formattedByte") : ∀ (x1 : Int32) (σ : TS) (H : Heap) (locs : List Loc) (cells slots : Nat) (ls : Array Slot), WI E R s (twS h σ S) H locs cells slots → lv_has ls 2 [(0, .ref h), (1, .int x1)] → fX4_formattedByte σ x1 = some res → W p l e R s m args below meth c H locs cells slots (MQ below (Qd E R.cells R.slots (some (.int res.1)) (twS h res.2 S)) args s R.cells R.slots (fr E)) (F0 m 0 ls []) := by
  intro x1 σ H locs cells slots ls I hl hf
  obtain ⟨⟨hx, hb, hml, hown, hts⟩, -⟩ := id X
  unfold fX4_formattedByte at hf
  refine lv_aload_n hx hb dX4_formattedByte_0 rfl (lv_at hl 0 rfl) ?_
  refine lv_iconst (v := 0) hx hb dX4_formattedByte_1 (by decide) ?_
  obtain ⟨σ_1, eσ_1, hf⟩ := ol hf
  refine tw_put X I 0 (ty := .int) (by decide) (by decide) rfl q2687 rfl rfl rfl rfl eσ_1 dX4_formattedByte_2 (fun H locs I => ?_)
  refine lv_iload_n hx hb dX4_formattedByte_5 rfl (lv_at hl 1 rfl) ?_
  refine lv_i2l hx hb dX4_formattedByte_6 rfl ?_
  refine lv_lconst (v := 0) hx hb dX4_formattedByte_7 (by decide) ?_
  refine lv_aload_n hx hb dX4_formattedByte_8 rfl (lv_at hl 0 rfl) ?_
  refine tw_get X I 47 (v := .int (σ_1.1 0 47)) (by decide) q2734 rfl dX4_formattedByte_9 ?_
  refine lv_iconst (v := 1) hx hb dX4_formattedByte_12 (by decide) ?_
  refine lv_isub hx hb dX4_formattedByte_13 ?_
  refine lv_i2l hx hb dX4_formattedByte_14 rfl ?_
  obtain ⟨v_2, ev_2, hf⟩ := ob hf
  refine tw_S (some (.int v_2)) (rs := [.int v_2]) (rest := []) (As := [.long (x1.toInt64), .long (0 : Int64), .long (((σ_1.1 0 47) - (1 : Int32)).toInt64)]) X I (mX4_in X.2.2.2.2.1 ev_2) lvX4_in hdX4_in ⟨Nat.le_trans (Nat.le_of_ble_eq_true rfl) hR.1, Nat.le_trans (Nat.le_of_ble_eq_true rfl) hR.2⟩ rfl hl.1 rfl (Nat.le_of_ble_eq_true rfl) rfl dX4_formattedByte_15 (fun H locs cells slots I => ?_)
  refine lv_if_eq (tgt := 30) hx hb dX4_formattedByte_18 (by decide) (fun c_18 => ?_) (fun c_18 => ?_)
  · have hf := ip c_18 hf
    refine lv_iconst (v := (-1)) hx hb dX4_formattedByte_30 (by decide) ?_
    cases os hf
    exact r_iret X I dX4_formattedByte_31
  · have hf := im c_18 hf
    refine lv_aload_n hx hb dX4_formattedByte_21 rfl (lv_at hl 0 rfl) ?_
    refine tw_get X I 46 (v := .ref (h + 21)) (by decide) q2733 rfl dX4_formattedByte_22 ?_
    refine lv_iload_n hx hb dX4_formattedByte_25 rfl (lv_at hl 1 rfl) ?_
    obtain ⟨v_4, ev_4, hf⟩ := ob hf
    refine tw_bald X I ev_4 dX4_formattedByte_26 ?_
    refine lv_goto (tgt := 31) hx hb dX4_formattedByte_27 (by decide) ?_
    cases os hf
    exact r_iret X I dX4_formattedByte_31
theorem mX4_formattedByte {E : EV} {l : Launch} {h : Nat} {S : St} {σ : TS} {x1 : Int32} {res : (Int32 × TS)} (hE : EK E) (hf : fX4_formattedByte σ x1 = some res) : CM E l yX4_formattedByte (ws_ yX4_formattedByte cX4_formattedByte 2 (some .int)) 1 25 [.ref h, .int x1] (twS h σ S) (some (.int res.1)) (twS h res.2 S) := by
  refine CM.of hE (by decide) rfl rfl (Nat.le_of_ble_eq_true rfl) ?_
  intro p e s m below meth c X I ls hl
  exact wX4_formattedByte_0 ⟨Nat.le_refl _, Nat.le_refl _⟩ X _ _ _ _ _ _ _ I hl hf
/-! goesIn(I)Z -/
theorem lvX4_goesIn : GoodIn lw_all (wsV RX4 469 RX4 yX4_goesIn (ws_ yX4_goesIn cX4_goesIn 2 (some .boolean))) := lw_V q3278 q3280 qs103 q120 q3281
theorem hdX4_goesIn : yX4_goesIn.cls = RX4 ∧ yX4_goesIn.cls ≠ "java/lang/invoke/MethodHandle" ∧ yX4_goesIn.cls ≠ "java/lang/invoke/VarHandle" ∧ (parseMethodDescriptor yX4_goesIn.desc).map (fun d => d.parameters.length) = some 1 := by decide +kernel
theorem wX4_goesIn_0 {E : EV} {l : Launch} {p : Program} {e : Env} {s : State} {m : MethodId} {args : Array Value} {below : List Frame} {meth : Method} {c : Code} {R : Room} {h : Nat} {S : St} {res : (Int32 × TS)} (hR : 3 ≤ R.frames ∧ 61 ≤ R.locals) (X : MX E p s m args meth c cX4_goesIn 2 (some .boolean) RX4 "goesIn") (N : Nat) : ∀ (x1 : Int32) (σ : TS) (H : Heap) (locs : List Loc) (cells slots : Nat) (ls : Array Slot), WI E R s (twS h σ S) H locs cells slots → lv_has ls 2 [(0, .ref h), (1, .int x1)] → fX4_goesIn N σ x1 = some res → W p l e R s m args below meth c H locs cells slots (MQ below (Qd E R.cells R.slots (some (.int res.1)) (twS h res.2 S)) args s R.cells R.slots (fr E)) (F0 m 0 ls []) := by
  intro x1 σ H locs cells slots ls I hl hf
  obtain ⟨⟨hx, hb, hml, hown, hts⟩, -⟩ := id X
  unfold fX4_goesIn at hf
  refine lv_aload_n hx hb dX4_goesIn_0 rfl (lv_at hl 0 rfl) ?_
  refine tw_get X I 53 (v := .int (σ.1 0 53)) (by decide) q2740 rfl dX4_goesIn_1 ?_
  refine lv_bipush (v := 6) hx hb dX4_goesIn_4 (by decide) ?_
  refine lv_icmp_ne (tgt := 15) hx hb dX4_goesIn_6 (by decide) (fun c_6 => ?_) (fun c_6 => ?_)
  · have hf := im c_6 hf
    refine lv_aload_n hx hb dX4_goesIn_15 rfl (lv_at hl 0 rfl) ?_
    refine lv_dup hx hb dX4_goesIn_16 rfl ?_
    refine tw_get X I 53 (v := .int (σ.1 0 53)) (by decide) q2740 rfl dX4_goesIn_17 ?_
    refine lv_iconst (v := 1) hx hb dX4_goesIn_20 (by decide) ?_
    refine lv_iadd hx hb dX4_goesIn_21 ?_
    obtain ⟨σ_1, eσ_1, hf⟩ := ol hf
    refine tw_put X I 53 (ty := .int) (by decide) (by decide) rfl q2740 rfl rfl rfl rfl eσ_1 dX4_goesIn_22 (fun H locs I => ?_)
    refine lv_aload_n hx hb dX4_goesIn_25 rfl (lv_at hl 0 rfl) ?_
    refine tw_get X I 49 (v := .ref (h + 23)) (by decide) q2736 rfl dX4_goesIn_26 ?_
    refine lv_aload_n hx hb dX4_goesIn_29 rfl (lv_at hl 0 rfl) ?_
    refine tw_get X I 52 (v := .int (σ_1.1 0 52)) (by decide) q2739 rfl dX4_goesIn_30 ?_
    refine lv_iload_n hx hb dX4_goesIn_33 rfl (lv_at hl 1 rfl) ?_
    obtain ⟨σ_2, eσ_2, hf⟩ := ob hf
    refine tw_ast X I 23 (by decide) (by decide) (by decide) eσ_2 dX4_goesIn_34 (fun H locs I => ?_)
    refine lv_aload_n hx hb dX4_goesIn_35 rfl (lv_at hl 0 rfl) ?_
    refine lv_dup hx hb dX4_goesIn_36 rfl ?_
    refine tw_get X I 52 (v := .int (σ_2.1 0 52)) (by decide) q2739 rfl dX4_goesIn_37 ?_
    refine lv_iconst (v := 1) hx hb dX4_goesIn_40 (by decide) ?_
    refine lv_iadd hx hb dX4_goesIn_41 ?_
    obtain ⟨σ_3, eσ_3, hf⟩ := ol hf
    refine tw_put X I 52 (ty := .int) (by decide) (by decide) rfl q2739 rfl rfl rfl rfl eσ_3 dX4_goesIn_42 (fun H locs I => ?_)
    refine lv_aload_n hx hb dX4_goesIn_45 rfl (lv_at hl 0 rfl) ?_
    obtain ⟨σ_5, eσ_5, hf⟩ := ob hf
    refine tw_V none (rs := []) (rest := []) (As := []) X I (mX4_next X.2.2.2.2.1 eσ_5) lvX4_next hdX4_next ⟨Nat.le_trans (Nat.le_of_ble_eq_true rfl) hR.1, Nat.le_trans (Nat.le_of_ble_eq_true rfl) hR.2⟩ rfl hl.1 rfl (Nat.le_of_ble_eq_true rfl) rfl dX4_goesIn_46 (fun H locs cells slots I => ?_)
    refine lv_iconst (v := 1) hx hb dX4_goesIn_49 (by decide) ?_
    cases os hf
    exact r_zret X I (Or.inr rfl) dX4_goesIn_50
  · have hf := ip c_6 hf
    refine lv_aload_n hx hb dX4_goesIn_9 rfl (lv_at hl 0 rfl) ?_
    refine lv_iconst (v := 3) hx hb dX4_goesIn_10 (by decide) ?_
    obtain ⟨v_6, ev_6, hf⟩ := ob hf
    refine tw_V (some (.int v_6.1)) (rs := [.int v_6.1]) (rest := []) (As := [.int (3 : Int32)]) X I (mX4_wrongs X.2.2.2.2.1 ev_6) lvX4_wrongs hdX4_wrongs ⟨Nat.le_trans (Nat.le_of_ble_eq_true rfl) hR.1, Nat.le_trans (Nat.le_of_ble_eq_true rfl) hR.2⟩ rfl hl.1 rfl (Nat.le_of_ble_eq_true rfl) rfl dX4_goesIn_11 (fun H locs cells slots I => ?_)
    by_cases d_14 : ¬ (v_6.1 = 0 ∨ v_6.1 = 1)
    · rw [if_neg d_14] at hf; cases hf
    have c_14 := Decidable.not_not.mp d_14
    have hf := ip c_14 hf
    cases os hf
    exact r_zret X I c_14 dX4_goesIn_14
theorem mX4_goesIn {E : EV} {l : Launch} {h : Nat} {S : St} {N : Nat} {σ : TS} {x1 : Int32} {res : (Int32 × TS)} (hE : EK E) (hf : fX4_goesIn N σ x1 = some res) : CM E l yX4_goesIn (ws_ yX4_goesIn cX4_goesIn 2 (some .boolean)) 3 61 [.ref h, .int x1] (twS h σ S) (some (.int res.1)) (twS h res.2 S) := by
  refine CM.of hE (by decide) rfl rfl (Nat.le_of_ble_eq_true rfl) ?_
  intro p e s m below meth c X I ls hl
  exact wX4_goesIn_0 ⟨Nat.le_refl _, Nat.le_refl _⟩ X N _ _ _ _ _ _ _ I hl hf
/-! adds(I)V -/
theorem lvX4_adds : GoodIn lw_all (wsV RX4 452 RX4 yX4_adds (ws_ yX4_adds cX4_adds 2 none)) := lw_V q3287 q3289 qs105 q120 q3290
theorem hdX4_adds : yX4_adds.cls = RX4 ∧ yX4_adds.cls ≠ "java/lang/invoke/MethodHandle" ∧ yX4_adds.cls ≠ "java/lang/invoke/VarHandle" ∧ (parseMethodDescriptor yX4_adds.desc).map (fun d => d.parameters.length) = some 1 := by decide +kernel
theorem wX4_adds_0 {E : EV} {l : Launch} {p : Program} {e : Env} {s : State} {m : MethodId} {args : Array Value} {below : List Frame} {meth : Method} {c : Code} {R : Room} {h : Nat} {S : St} {res : TS} (hR : 0 ≤ R.frames ∧ 0 ≤ R.locals) (X : MX E p s m args meth c cX4_adds 2 none RX4 "adds") : ∀ (x1 : Int32) (σ : TS) (H : Heap) (locs : List Loc) (cells slots : Nat) (ls : Array Slot), WI E R s (twS h σ S) H locs cells slots → lv_has ls 2 [(0, .ref h), (1, .int x1)] → fX4_adds σ x1 = some res → W p l e R s m args below meth c H locs cells slots (MQ below (Qd E R.cells R.slots none (twS h res S)) args s R.cells R.slots (fr E)) (F0 m 0 ls []) := by
  intro x1 σ H locs cells slots ls I hl hf
  obtain ⟨⟨hx, hb, hml, hown, hts⟩, -⟩ := id X
  unfold fX4_adds at hf
  refine lv_aload_n hx hb dX4_adds_0 rfl (lv_at hl 0 rfl) ?_
  refine tw_get X I 48 (v := .ref (h + 22)) (by decide) q2735 rfl dX4_adds_1 ?_
  refine lv_aload_n hx hb dX4_adds_4 rfl (lv_at hl 0 rfl) ?_
  refine tw_get X I 51 (v := .int (σ.1 0 51)) (by decide) q2738 rfl dX4_adds_5 ?_
  refine lv_iload_n hx hb dX4_adds_8 rfl (lv_at hl 1 rfl) ?_
  obtain ⟨σ_1, eσ_1, hf⟩ := ob hf
  refine tw_ast X I 22 (by decide) (by decide) (by decide) eσ_1 dX4_adds_9 (fun H locs I => ?_)
  refine lv_aload_n hx hb dX4_adds_10 rfl (lv_at hl 0 rfl) ?_
  refine lv_dup hx hb dX4_adds_11 rfl ?_
  refine tw_get X I 51 (v := .int (σ_1.1 0 51)) (by decide) q2738 rfl dX4_adds_12 ?_
  refine lv_iconst (v := 1) hx hb dX4_adds_15 (by decide) ?_
  refine lv_iadd hx hb dX4_adds_16 ?_
  obtain ⟨σ_2, eσ_2, hf⟩ := ol hf
  refine tw_put X I 51 (ty := .int) (by decide) (by decide) rfl q2738 rfl rfl rfl rfl eσ_2 dX4_adds_17 (fun H locs I => ?_)
  cases os hf
  exact r_vret X I dX4_adds_20
theorem mX4_adds {E : EV} {l : Launch} {h : Nat} {S : St} {σ : TS} {x1 : Int32} {res : TS} (hE : EK E) (hf : fX4_adds σ x1 = some res) : CM E l yX4_adds (ws_ yX4_adds cX4_adds 2 none) 0 0 [.ref h, .int x1] (twS h σ S) none (twS h res S) := by
  refine CM.of hE (by decide) rfl rfl (Nat.le_of_ble_eq_true rfl) ?_
  intro p e s m below meth c X I ls hl
  exact wX4_adds_0 ⟨Nat.le_refl _, Nat.le_refl _⟩ X _ _ _ _ _ _ _ I hl hf
/-! propertyHere()I -/
theorem lvX4_propertyHere : GoodIn lw_all (wsV RX4 455 RX4 yX4_propertyHere (ws_ yX4_propertyHere cX4_propertyHere 1 (some .int))) := lw_V q3291 q3293 qs106 q120 q3294
theorem hdX4_propertyHere : yX4_propertyHere.cls = RX4 ∧ yX4_propertyHere.cls ≠ "java/lang/invoke/MethodHandle" ∧ yX4_propertyHere.cls ≠ "java/lang/invoke/VarHandle" ∧ (parseMethodDescriptor yX4_propertyHere.desc).map (fun d => d.parameters.length) = some 0 := by decide +kernel
theorem wX4_propertyHere_0 {E : EV} {l : Launch} {p : Program} {e : Env} {s : State} {m : MethodId} {args : Array Value} {below : List Frame} {meth : Method} {c : Code} {R : Room} {h : Nat} {S : St} {σ : TS} {res : Int32} (hR : 2 ≤ R.frames ∧ 42 ≤ R.locals) (X : MX E p s m args meth c cX4_propertyHere 1 (some .int) RX4 "propertyHere") : ∀ (H : Heap) (locs : List Loc) (cells slots : Nat) (ls : Array Slot), WI E R s (twS h σ S) H locs cells slots → lv_has ls 1 [(0, .ref h)] → fX4_propertyHere σ = some res → W p l e R s m args below meth c H locs cells slots (MQ below (Qd E R.cells R.slots (some (.int res)) (twS h σ S)) args s R.cells R.slots (fr E)) (F0 m 0 ls []) := by
  intro  H locs cells slots ls I hl hf
  obtain ⟨⟨hx, hb, hml, hown, hts⟩, -⟩ := id X
  unfold fX4_propertyHere at hf
  refine lv_aload_n hx hb dX4_propertyHere_0 rfl (lv_at hl 0 rfl) ?_
  refine lv_ldc2 (v := 360968) hx hb hown (hts _ q3295) dX4_propertyHere_1 ?_
  obtain ⟨v_1, ev_1, hf⟩ := ob hf
  refine tw_V (some (.int v_1)) (rs := [.int v_1]) (rest := []) (As := [.long (360968 : Int64)]) X I (mX4_isWord X.2.2.2.2.1 ev_1) lvX4_isWord hdX4_isWord ⟨Nat.le_trans (Nat.le_of_ble_eq_true rfl) hR.1, Nat.le_trans (Nat.le_of_ble_eq_true rfl) hR.2⟩ rfl hl.1 rfl (Nat.le_of_ble_eq_true rfl) rfl dX4_propertyHere_4 (fun H locs cells slots I => ?_)
  refine lv_if_eq (tgt := 12) hx hb dX4_propertyHere_7 (by decide) (fun c_7 => ?_) (fun c_7 => ?_)
  · have hf := ip c_7 hf
    refine lv_aload_n hx hb dX4_propertyHere_12 rfl (lv_at hl 0 rfl) ?_
    refine lv_ldc2 (v := 10492313) hx hb hown (hts _ q3296) dX4_propertyHere_13 ?_
    obtain ⟨v_3, ev_3, hf⟩ := ob hf
    refine tw_V (some (.int v_3)) (rs := [.int v_3]) (rest := []) (As := [.long (10492313 : Int64)]) X I (mX4_isWord X.2.2.2.2.1 ev_3) lvX4_isWord hdX4_isWord ⟨Nat.le_trans (Nat.le_of_ble_eq_true rfl) hR.1, Nat.le_trans (Nat.le_of_ble_eq_true rfl) hR.2⟩ rfl hl.1 rfl (Nat.le_of_ble_eq_true rfl) rfl dX4_propertyHere_16 (fun H locs cells slots I => ?_)
    refine lv_if_eq (tgt := 24) hx hb dX4_propertyHere_19 (by decide) (fun c_19 => ?_) (fun c_19 => ?_)
    · have hf := ip c_19 hf
      refine lv_aload_n hx hb dX4_propertyHere_24 rfl (lv_at hl 0 rfl) ?_
      refine lv_ldc2 (v := 131638) hx hb hown (hts _ q3297) dX4_propertyHere_25 ?_
      obtain ⟨v_5, ev_5, hf⟩ := ob hf
      refine tw_V (some (.int v_5)) (rs := [.int v_5]) (rest := []) (As := [.long (131638 : Int64)]) X I (mX4_isWord X.2.2.2.2.1 ev_5) lvX4_isWord hdX4_isWord ⟨Nat.le_trans (Nat.le_of_ble_eq_true rfl) hR.1, Nat.le_trans (Nat.le_of_ble_eq_true rfl) hR.2⟩ rfl hl.1 rfl (Nat.le_of_ble_eq_true rfl) rfl dX4_propertyHere_28 (fun H locs cells slots I => ?_)
      refine lv_if_eq (tgt := 36) hx hb dX4_propertyHere_31 (by decide) (fun c_31 => ?_) (fun c_31 => ?_)
      · have hf := ip c_31 hf
        refine lv_aload_n hx hb dX4_propertyHere_36 rfl (lv_at hl 0 rfl) ?_
        refine lv_ldc2 (v := 555) hx hb hown (hts _ q3298) dX4_propertyHere_37 ?_
        obtain ⟨v_7, ev_7, hf⟩ := ob hf
        refine tw_V (some (.int v_7)) (rs := [.int v_7]) (rest := []) (As := [.long (555 : Int64)]) X I (mX4_isWord X.2.2.2.2.1 ev_7) lvX4_isWord hdX4_isWord ⟨Nat.le_trans (Nat.le_of_ble_eq_true rfl) hR.1, Nat.le_trans (Nat.le_of_ble_eq_true rfl) hR.2⟩ rfl hl.1 rfl (Nat.le_of_ble_eq_true rfl) rfl dX4_propertyHere_40 (fun H locs cells slots I => ?_)
        refine lv_if_eq (tgt := 48) hx hb dX4_propertyHere_43 (by decide) (fun c_43 => ?_) (fun c_43 => ?_)
        · have hf := ip c_43 hf
          refine lv_aload_n hx hb dX4_propertyHere_48 rfl (lv_at hl 0 rfl) ?_
          refine lv_ldc2 (v := 6280423606) hx hb hown (hts _ q3299) dX4_propertyHere_49 ?_
          obtain ⟨v_9, ev_9, hf⟩ := ob hf
          refine tw_V (some (.int v_9)) (rs := [.int v_9]) (rest := []) (As := [.long (6280423606 : Int64)]) X I (mX4_isWord X.2.2.2.2.1 ev_9) lvX4_isWord hdX4_isWord ⟨Nat.le_trans (Nat.le_of_ble_eq_true rfl) hR.1, Nat.le_trans (Nat.le_of_ble_eq_true rfl) hR.2⟩ rfl hl.1 rfl (Nat.le_of_ble_eq_true rfl) rfl dX4_propertyHere_52 (fun H locs cells slots I => ?_)
          refine lv_if_eq (tgt := 60) hx hb dX4_propertyHere_55 (by decide) (fun c_55 => ?_) (fun c_55 => ?_)
          · have hf := ip c_55 hf
            refine lv_aload_n hx hb dX4_propertyHere_60 rfl (lv_at hl 0 rfl) ?_
            refine lv_ldc2 (v := 9665215) hx hb hown (hts _ q3300) dX4_propertyHere_61 ?_
            obtain ⟨v_11, ev_11, hf⟩ := ob hf
            refine tw_V (some (.int v_11)) (rs := [.int v_11]) (rest := []) (As := [.long (9665215 : Int64)]) X I (mX4_isWord X.2.2.2.2.1 ev_11) lvX4_isWord hdX4_isWord ⟨Nat.le_trans (Nat.le_of_ble_eq_true rfl) hR.1, Nat.le_trans (Nat.le_of_ble_eq_true rfl) hR.2⟩ rfl hl.1 rfl (Nat.le_of_ble_eq_true rfl) rfl dX4_propertyHere_64 (fun H locs cells slots I => ?_)
            refine lv_if_eq (tgt := 72) hx hb dX4_propertyHere_67 (by decide) (fun c_67 => ?_) (fun c_67 => ?_)
            · have hf := ip c_67 hf
              refine lv_aload_n hx hb dX4_propertyHere_72 rfl (lv_at hl 0 rfl) ?_
              refine lv_ldc2 (v := 60458013) hx hb hown (hts _ q3301) dX4_propertyHere_73 ?_
              obtain ⟨v_13, ev_13, hf⟩ := ob hf
              refine tw_V (some (.int v_13)) (rs := [.int v_13]) (rest := []) (As := [.long (60458013 : Int64)]) X I (mX4_isWord X.2.2.2.2.1 ev_13) lvX4_isWord hdX4_isWord ⟨Nat.le_trans (Nat.le_of_ble_eq_true rfl) hR.1, Nat.le_trans (Nat.le_of_ble_eq_true rfl) hR.2⟩ rfl hl.1 rfl (Nat.le_of_ble_eq_true rfl) rfl dX4_propertyHere_76 (fun H locs cells slots I => ?_)
              refine lv_if_eq (tgt := 85) hx hb dX4_propertyHere_79 (by decide) (fun c_79 => ?_) (fun c_79 => ?_)
              · have hf := ip c_79 hf
                refine lv_aload_n hx hb dX4_propertyHere_85 rfl (lv_at hl 0 rfl) ?_
                refine lv_ldc2 (v := 119318) hx hb hown (hts _ q3302) dX4_propertyHere_86 ?_
                obtain ⟨v_15, ev_15, hf⟩ := ob hf
                refine tw_V (some (.int v_15)) (rs := [.int v_15]) (rest := []) (As := [.long (119318 : Int64)]) X I (mX4_isWord X.2.2.2.2.1 ev_15) lvX4_isWord hdX4_isWord ⟨Nat.le_trans (Nat.le_of_ble_eq_true rfl) hR.1, Nat.le_trans (Nat.le_of_ble_eq_true rfl) hR.2⟩ rfl hl.1 rfl (Nat.le_of_ble_eq_true rfl) rfl dX4_propertyHere_89 (fun H locs cells slots I => ?_)
                refine lv_if_eq (tgt := 98) hx hb dX4_propertyHere_92 (by decide) (fun c_92 => ?_) (fun c_92 => ?_)
                · have hf := ip c_92 hf
                  refine lv_aload_n hx hb dX4_propertyHere_98 rfl (lv_at hl 0 rfl) ?_
                  refine lv_ldc2 (v := 395046) hx hb hown (hts _ q2944) dX4_propertyHere_99 ?_
                  obtain ⟨v_17, ev_17, hf⟩ := ob hf
                  refine tw_V (some (.int v_17)) (rs := [.int v_17]) (rest := []) (As := [.long (395046 : Int64)]) X I (mX4_isWord X.2.2.2.2.1 ev_17) lvX4_isWord hdX4_isWord ⟨Nat.le_trans (Nat.le_of_ble_eq_true rfl) hR.1, Nat.le_trans (Nat.le_of_ble_eq_true rfl) hR.2⟩ rfl hl.1 rfl (Nat.le_of_ble_eq_true rfl) rfl dX4_propertyHere_102 (fun H locs cells slots I => ?_)
                  refine lv_if_eq (tgt := 113) hx hb dX4_propertyHere_105 (by decide) (fun c_105 => ?_) (fun c_105 => ?_)
                  · have hf := ip c_105 hf
                    refine lv_iconst (v := (-1)) hx hb dX4_propertyHere_113 (by decide) ?_
                    cases os hf
                    exact r_iret X I dX4_propertyHere_114
                  · have hf := im c_105 hf
                    refine lv_bipush (v := 8) hx hb dX4_propertyHere_108 (by decide) ?_
                    refine lv_goto (tgt := 114) hx hb dX4_propertyHere_110 (by decide) ?_
                    cases os hf
                    exact r_iret X I dX4_propertyHere_114
                · have hf := im c_92 hf
                  refine lv_bipush (v := 7) hx hb dX4_propertyHere_95 (by decide) ?_
                  cases os hf
                  exact r_iret X I dX4_propertyHere_97
              · have hf := im c_79 hf
                refine lv_bipush (v := 6) hx hb dX4_propertyHere_82 (by decide) ?_
                cases os hf
                exact r_iret X I dX4_propertyHere_84
            · have hf := im c_67 hf
              refine lv_iconst (v := 5) hx hb dX4_propertyHere_70 (by decide) ?_
              cases os hf
              exact r_iret X I dX4_propertyHere_71
          · have hf := im c_55 hf
            refine lv_iconst (v := 4) hx hb dX4_propertyHere_58 (by decide) ?_
            cases os hf
            exact r_iret X I dX4_propertyHere_59
        · have hf := im c_43 hf
          refine lv_iconst (v := 3) hx hb dX4_propertyHere_46 (by decide) ?_
          cases os hf
          exact r_iret X I dX4_propertyHere_47
      · have hf := im c_31 hf
        refine lv_iconst (v := 2) hx hb dX4_propertyHere_34 (by decide) ?_
        cases os hf
        exact r_iret X I dX4_propertyHere_35
    · have hf := im c_19 hf
      refine lv_iconst (v := 1) hx hb dX4_propertyHere_22 (by decide) ?_
      cases os hf
      exact r_iret X I dX4_propertyHere_23
  · have hf := im c_7 hf
    refine lv_iconst (v := 0) hx hb dX4_propertyHere_10 (by decide) ?_
    cases os hf
    exact r_iret X I dX4_propertyHere_11
theorem mX4_propertyHere {E : EV} {l : Launch} {h : Nat} {S : St} {σ : TS} {res : Int32} (hE : EK E) (hf : fX4_propertyHere σ = some res) : CM E l yX4_propertyHere (ws_ yX4_propertyHere cX4_propertyHere 1 (some .int)) 2 42 [.ref h] (twS h σ S) (some (.int res)) (twS h σ S) := by
  refine CM.of hE (by decide) rfl rfl (Nat.le_of_ble_eq_true rfl) ?_
  intro p e s m below meth c X I ls hl
  exact wX4_propertyHere_0 ⟨Nat.le_refl _, Nat.le_refl _⟩ X  _ _ _ _ _ I hl hf
/-! valueRead()V -/
theorem lvX4_valueRead : GoodIn lw_all (wsV RX4 472 RX4 yX4_valueRead (ws_ yX4_valueRead cX4_valueRead 2 none)) := lw_V q3282 q3284 qs104 q120 q3285
theorem hdX4_valueRead : yX4_valueRead.cls = RX4 ∧ yX4_valueRead.cls ≠ "java/lang/invoke/MethodHandle" ∧ yX4_valueRead.cls ≠ "java/lang/invoke/VarHandle" ∧ (parseMethodDescriptor yX4_valueRead.desc).map (fun d => d.parameters.length) = some 0 := by decide +kernel
theorem wX4_valueRead_0 {E : EV} {l : Launch} {p : Program} {e : Env} {s : State} {m : MethodId} {args : Array Value} {below : List Frame} {meth : Method} {c : Code} {R : Room} {h : Nat} {S : St} {res : TS} (hR : 4 ≤ R.frames ∧ 84 ≤ R.locals) (X : MX E p s m args meth c cX4_valueRead 2 none RX4 "valueRead") (N : Nat) : ∀ (σ : TS) (H : Heap) (locs : List Loc) (cells slots : Nat) (ls : Array Slot), WI E R s (twS h σ S) H locs cells slots → lv_has ls 2 [(0, .ref h)] → fX4_valueRead N σ = some res → W p l e R s m args below meth c H locs cells slots (MQ below (Qd E R.cells R.slots none (twS h res S)) args s R.cells R.slots (fr E)) (F0 m 0 ls []) := by
  intro σ H locs cells slots ls I hl hf
  obtain ⟨⟨hx, hb, hml, hown, hts⟩, -⟩ := id X
  unfold fX4_valueRead at hf
  refine lv_aload_n hx hb dX4_valueRead_0 rfl (lv_at hl 0 rfl) ?_
  obtain ⟨v_1, ev_1, hf⟩ := ob hf
  refine tw_V (some (.int v_1)) (rs := [.int v_1]) (rest := []) (As := []) X I (mX4_isGood X.2.2.2.2.1 ev_1) lvX4_isGood hdX4_isGood ⟨Nat.le_trans (Nat.le_of_ble_eq_true rfl) hR.1, Nat.le_trans (Nat.le_of_ble_eq_true rfl) hR.2⟩ rfl hl.1 rfl (Nat.le_of_ble_eq_true rfl) rfl dX4_valueRead_1 (fun H locs cells slots I => ?_)
  refine lv_if_ne (tgt := 8) hx hb dX4_valueRead_4 (by decide) (fun c_4 => ?_) (fun c_4 => ?_)
  · have hf := im c_4 hf
    refine lv_aload_n hx hb dX4_valueRead_8 rfl (lv_at hl 0 rfl) ?_
    refine tw_get X I 27 (v := .int (σ.1 0 27)) (by decide) q2714 rfl dX4_valueRead_9 ?_
    refine lv_iconst (v := 2) hx hb dX4_valueRead_12 (by decide) ?_
    refine lv_icmp_ne (tgt := 34) hx hb dX4_valueRead_13 (by decide) (fun c_13 => ?_) (fun c_13 => ?_)
    · have hf := im c_13 hf
      refine lv_aload_n hx hb dX4_valueRead_34 rfl (lv_at hl 0 rfl) ?_
      obtain ⟨v_3, ev_3, hf⟩ := ob hf
      refine tw_V (some (.int v_3)) (rs := [.int v_3]) (rest := []) (As := []) X I (mX4_propertyHere X.2.2.2.2.1 ev_3) lvX4_propertyHere hdX4_propertyHere ⟨Nat.le_trans (Nat.le_of_ble_eq_true rfl) hR.1, Nat.le_trans (Nat.le_of_ble_eq_true rfl) hR.2⟩ rfl hl.1 rfl (Nat.le_of_ble_eq_true rfl) rfl dX4_valueRead_35 (fun H locs cells slots I => ?_)
      refine lv_istore_n (lv' := [(1, .int v_3), (0, .ref h)]) hx hb dX4_valueRead_38 rfl hl (by decide) rfl (fun ls hl => ?_)
      refine lv_iload_n hx hb dX4_valueRead_39 rfl (lv_at hl 0 rfl) ?_
      refine lv_iconst (v := (-1)) hx hb dX4_valueRead_40 (by decide) ?_
      refine lv_icmp_ne (tgt := 51) hx hb dX4_valueRead_41 (by decide) (fun c_41 => ?_) (fun c_41 => ?_)
      · have hf := im c_41 hf
        refine lv_aload_n hx hb dX4_valueRead_51 rfl (lv_at hl 1 rfl) ?_
        refine lv_iload_n hx hb dX4_valueRead_52 rfl (lv_at hl 0 rfl) ?_
        obtain ⟨σ_6, eσ_6, hf⟩ := ob hf
        refine tw_V none (rs := []) (rest := []) (As := [.int v_3]) X I (mX4_adds X.2.2.2.2.1 eσ_6) lvX4_adds hdX4_adds ⟨Nat.le_trans (Nat.le_of_ble_eq_true rfl) hR.1, Nat.le_trans (Nat.le_of_ble_eq_true rfl) hR.2⟩ rfl hl.1 rfl (Nat.le_of_ble_eq_true rfl) rfl dX4_valueRead_53 (fun H locs cells slots I => ?_)
        refine lv_aload_n hx hb dX4_valueRead_56 rfl (lv_at hl 1 rfl) ?_
        obtain ⟨σ_8, eσ_8, hf⟩ := ob hf
        refine tw_V none (rs := []) (rest := []) (As := []) X I (mX4_next X.2.2.2.2.1 eσ_8) lvX4_next hdX4_next ⟨Nat.le_trans (Nat.le_of_ble_eq_true rfl) hR.1, Nat.le_trans (Nat.le_of_ble_eq_true rfl) hR.2⟩ rfl hl.1 rfl (Nat.le_of_ble_eq_true rfl) rfl dX4_valueRead_57 (fun H locs cells slots I => ?_)
        cases os hf
        exact r_vret X I dX4_valueRead_60
      · have hf := ip c_41 hf
        refine lv_aload_n hx hb dX4_valueRead_44 rfl (lv_at hl 1 rfl) ?_
        refine lv_iconst (v := 1) hx hb dX4_valueRead_45 (by decide) ?_
        obtain ⟨v_9, ev_9, hf⟩ := ob hf
        refine tw_V (some (.int v_9.1)) (rs := [.int v_9.1]) (rest := []) (As := [.int (1 : Int32)]) X I (mX4_wrongs X.2.2.2.2.1 ev_9) lvX4_wrongs hdX4_wrongs ⟨Nat.le_trans (Nat.le_of_ble_eq_true rfl) hR.1, Nat.le_trans (Nat.le_of_ble_eq_true rfl) hR.2⟩ rfl hl.1 rfl (Nat.le_of_ble_eq_true rfl) rfl dX4_valueRead_46 (fun H locs cells slots I => ?_)
        refine lv_pop hx hb dX4_valueRead_49 rfl ?_
        cases os hf
        exact r_vret X I dX4_valueRead_50
    · have hf := ip c_13 hf
      refine lv_aload_n hx hb dX4_valueRead_16 rfl (lv_at hl 0 rfl) ?_
      refine lv_iconst (v := 0) hx hb dX4_valueRead_17 (by decide) ?_
      refine lv_ldcw (v := 99999) hx hb hown (hts _ q3286) dX4_valueRead_18 ?_
      obtain ⟨v_11, ev_11, hf⟩ := ob hf
      refine tw_V (some (.int v_11.1)) (rs := [.int v_11.1]) (rest := []) (As := [.int (0 : Int32), .int (99999 : Int32)]) X I (mX4_number X.2.2.2.2.1 ev_11) lvX4_number hdX4_number ⟨Nat.le_trans (Nat.le_of_ble_eq_true rfl) hR.1, Nat.le_trans (Nat.le_of_ble_eq_true rfl) hR.2⟩ rfl hl.1 rfl (Nat.le_of_ble_eq_true rfl) rfl dX4_valueRead_21 (fun H locs cells slots I => ?_)
      refine lv_istore_n (lv' := [(1, .int v_11.1), (0, .ref h)]) hx hb dX4_valueRead_24 rfl hl (by decide) rfl (fun ls hl => ?_)
      refine lv_aload_n hx hb dX4_valueRead_25 rfl (lv_at hl 1 rfl) ?_
      refine lv_bipush (v := 100) hx hb dX4_valueRead_26 (by decide) ?_
      refine lv_iload_n hx hb dX4_valueRead_28 rfl (lv_at hl 0 rfl) ?_
      refine lv_iadd hx hb dX4_valueRead_29 ?_
      obtain ⟨σ_14, eσ_14, hf⟩ := ob hf
      refine tw_V none (rs := []) (rest := []) (As := [.int ((100 : Int32) + v_11.1)]) X I (mX4_adds X.2.2.2.2.1 eσ_14) lvX4_adds hdX4_adds ⟨Nat.le_trans (Nat.le_of_ble_eq_true rfl) hR.1, Nat.le_trans (Nat.le_of_ble_eq_true rfl) hR.2⟩ rfl hl.1 rfl (Nat.le_of_ble_eq_true rfl) rfl dX4_valueRead_30 (fun H locs cells slots I => ?_)
      cases os hf
      exact r_vret X I dX4_valueRead_33
  · have hf := ip c_4 hf
    cases os hf
    exact r_vret X I dX4_valueRead_7
theorem mX4_valueRead {E : EV} {l : Launch} {h : Nat} {S : St} {N : Nat} {σ : TS} {res : TS} (hE : EK E) (hf : fX4_valueRead N σ = some res) : CM E l yX4_valueRead (ws_ yX4_valueRead cX4_valueRead 2 none) 4 84 [.ref h] (twS h σ S) none (twS h res S) := by
  refine CM.of hE (by decide) rfl rfl (Nat.le_of_ble_eq_true rfl) ?_
  intro p e s m below meth c X I ls hl
  exact wX4_valueRead_0 ⟨Nat.le_refl _, Nat.le_refl _⟩ X N _ _ _ _ _ _ I hl hf
/-! comparisonRead()V -/
theorem lvX4_comparisonRead : GoodIn lw_all (wsV RX4 481 RX4 yX4_comparisonRead (ws_ yX4_comparisonRead cX4_comparisonRead 2 none)) := lw_V q3273 q3275 qs102 q120 q3276
theorem hdX4_comparisonRead : yX4_comparisonRead.cls = RX4 ∧ yX4_comparisonRead.cls ≠ "java/lang/invoke/MethodHandle" ∧ yX4_comparisonRead.cls ≠ "java/lang/invoke/VarHandle" ∧ (parseMethodDescriptor yX4_comparisonRead.desc).map (fun d => d.parameters.length) = some 0 := by decide +kernel
theorem wX4_comparisonRead_99 {E : EV} {l : Launch} {p : Program} {e : Env} {s : State} {m : MethodId} {args : Array Value} {below : List Frame} {meth : Method} {c : Code} {R : Room} {h : Nat} {S : St} {res : TS} (hR : 5 ≤ R.frames ∧ 105 ≤ R.locals) (X : MX E p s m args meth c cX4_comparisonRead 2 none RX4 "comparisonRead") (N : Nat) : ∀ (x1 : Int32) (σ : TS) (H : Heap) (locs : List Loc) (cells slots : Nat) (ls : Array Slot), WI E R s (twS h σ S) H locs cells slots → lv_has ls 2 [(0, .ref h), (1, .int x1)] → fX4_comparisonRead_99 N x1 σ = some res → W p l e R s m args below meth c H locs cells slots (MQ below (Qd E R.cells R.slots none (twS h res S)) args s R.cells R.slots (fr E)) (F0 m 99 ls []) := by
  intro x1 σ H locs cells slots ls I hl hf
  obtain ⟨⟨hx, hb, hml, hown, hts⟩, -⟩ := id X
  unfold fX4_comparisonRead_99 at hf
  refine lv_aload_n hx hb dX4_comparisonRead_99 rfl (lv_at hl 0 rfl) ?_
  obtain ⟨v_1, ev_1, hf⟩ := ob hf
  refine tw_V (some (.int v_1)) (rs := [.int v_1]) (rest := []) (As := []) X I (mX4_isGood X.2.2.2.2.1 ev_1) lvX4_isGood hdX4_isGood ⟨Nat.le_trans (Nat.le_of_ble_eq_true rfl) hR.1, Nat.le_trans (Nat.le_of_ble_eq_true rfl) hR.2⟩ rfl hl.1 rfl (Nat.le_of_ble_eq_true rfl) rfl dX4_comparisonRead_100 (fun H locs cells slots I => ?_)
  refine lv_if_ne (tgt := 107) hx hb dX4_comparisonRead_103 (by decide) (fun c_103 => ?_) (fun c_103 => ?_)
  · have hf := im c_103 hf
    refine lv_aload_n hx hb dX4_comparisonRead_107 rfl (lv_at hl 0 rfl) ?_
    obtain ⟨σ_4, eσ_4, hf⟩ := ob hf
    refine tw_V none (rs := []) (rest := []) (As := []) X I (mX4_next X.2.2.2.2.1 eσ_4) lvX4_next hdX4_next ⟨Nat.le_trans (Nat.le_of_ble_eq_true rfl) hR.1, Nat.le_trans (Nat.le_of_ble_eq_true rfl) hR.2⟩ rfl hl.1 rfl (Nat.le_of_ble_eq_true rfl) rfl dX4_comparisonRead_108 (fun H locs cells slots I => ?_)
    refine lv_aload_n hx hb dX4_comparisonRead_111 rfl (lv_at hl 0 rfl) ?_
    obtain ⟨σ_6, eσ_6, hf⟩ := ob hf
    refine tw_V none (rs := []) (rest := []) (As := []) X I (mX4_valueRead X.2.2.2.2.1 eσ_6) lvX4_valueRead hdX4_valueRead ⟨Nat.le_trans (Nat.le_of_ble_eq_true rfl) hR.1, Nat.le_trans (Nat.le_of_ble_eq_true rfl) hR.2⟩ rfl hl.1 rfl (Nat.le_of_ble_eq_true rfl) rfl dX4_comparisonRead_112 (fun H locs cells slots I => ?_)
    refine lv_aload_n hx hb dX4_comparisonRead_115 rfl (lv_at hl 0 rfl) ?_
    obtain ⟨v_7, ev_7, hf⟩ := ob hf
    refine tw_V (some (.int v_7)) (rs := [.int v_7]) (rest := []) (As := []) X I (mX4_isGood X.2.2.2.2.1 ev_7) lvX4_isGood hdX4_isGood ⟨Nat.le_trans (Nat.le_of_ble_eq_true rfl) hR.1, Nat.le_trans (Nat.le_of_ble_eq_true rfl) hR.2⟩ rfl hl.1 rfl (Nat.le_of_ble_eq_true rfl) rfl dX4_comparisonRead_116 (fun H locs cells slots I => ?_)
    refine lv_if_eq (tgt := 127) hx hb dX4_comparisonRead_119 (by decide) (fun c_119 => ?_) (fun c_119 => ?_)
    · have hf := ip c_119 hf
      cases os hf
      exact r_vret X I dX4_comparisonRead_127
    · have hf := im c_119 hf
      refine lv_aload_n hx hb dX4_comparisonRead_122 rfl (lv_at hl 0 rfl) ?_
      refine lv_iload_n hx hb dX4_comparisonRead_123 rfl (lv_at hl 1 rfl) ?_
      obtain ⟨σ_10, eσ_10, hf⟩ := ob hf
      refine tw_V none (rs := []) (rest := []) (As := [.int x1]) X I (mX4_adds X.2.2.2.2.1 eσ_10) lvX4_adds hdX4_adds ⟨Nat.le_trans (Nat.le_of_ble_eq_true rfl) hR.1, Nat.le_trans (Nat.le_of_ble_eq_true rfl) hR.2⟩ rfl hl.1 rfl (Nat.le_of_ble_eq_true rfl) rfl dX4_comparisonRead_124 (fun H locs cells slots I => ?_)
      cases os hf
      exact r_vret X I dX4_comparisonRead_127
  · have hf := ip c_103 hf
    cases os hf
    exact r_vret X I dX4_comparisonRead_106
theorem wX4_comparisonRead_77 {E : EV} {l : Launch} {p : Program} {e : Env} {s : State} {m : MethodId} {args : Array Value} {below : List Frame} {meth : Method} {c : Code} {R : Room} {h : Nat} {S : St} {res : TS} (hR : 5 ≤ R.frames ∧ 105 ≤ R.locals) (X : MX E p s m args meth c cX4_comparisonRead 2 none RX4 "comparisonRead") (N : Nat) : ∀ (y0 : Int32) (σ : TS) (H : Heap) (locs : List Loc) (cells slots : Nat) (ls : Array Slot), WI E R s (twS h σ S) H locs cells slots → lv_has ls 2 [(0, .ref h)] → fX4_comparisonRead_77 N y0 σ = some res → W p l e R s m args below meth c H locs cells slots (MQ below (Qd E R.cells R.slots none (twS h res S)) args s R.cells R.slots (fr E)) (F0 m 77 ls [.int y0]) := by
  intro y0 σ H locs cells slots ls I hl hf
  obtain ⟨⟨hx, hb, hml, hown, hts⟩, -⟩ := id X
  unfold fX4_comparisonRead_77 at hf
  refine lv_istore_n (lv' := [(1, .int y0), (0, .ref h)]) hx hb dX4_comparisonRead_77 rfl hl (by decide) rfl (fun ls hl => ?_)
  refine lv_iload_n hx hb dX4_comparisonRead_78 rfl (lv_at hl 0 rfl) ?_
  refine lv_bipush (v := 21) hx hb dX4_comparisonRead_79 (by decide) ?_
  refine lv_icmp_ne (tgt := 99) hx hb dX4_comparisonRead_81 (by decide) (fun c_81 => ?_) (fun c_81 => ?_)
  · have hf := im c_81 hf
    exact wX4_comparisonRead_99 hR X N _ _ _ _ _ _ _ I (lv_sub hl [1, 0] rfl) hf
  · have hf := ip c_81 hf
    refine lv_aload_n hx hb dX4_comparisonRead_84 rfl (lv_at hl 1 rfl) ?_
    refine lv_bipush (v := 61) hx hb dX4_comparisonRead_85 (by decide) ?_
    obtain ⟨v_11, ev_11, hf⟩ := ob hf
    refine tw_V (some (.int v_11)) (rs := [.int v_11]) (rest := []) (As := [.int (61 : Int32)]) X I (mX4_isByte X.2.2.2.2.1 ev_11) lvX4_isByte hdX4_isByte ⟨Nat.le_trans (Nat.le_of_ble_eq_true rfl) hR.1, Nat.le_trans (Nat.le_of_ble_eq_true rfl) hR.2⟩ rfl hl.1 rfl (Nat.le_of_ble_eq_true rfl) rfl dX4_comparisonRead_87 (fun H locs cells slots I => ?_)
    refine lv_if_ne (tgt := 99) hx hb dX4_comparisonRead_90 (by decide) (fun c_90 => ?_) (fun c_90 => ?_)
    · have hf := im c_90 hf
      exact wX4_comparisonRead_99 hR X N _ _ _ _ _ _ _ I (lv_sub hl [1, 0] rfl) hf
    · have hf := ip c_90 hf
      refine lv_aload_n hx hb dX4_comparisonRead_93 rfl (lv_at hl 1 rfl) ?_
      refine lv_iconst (v := 1) hx hb dX4_comparisonRead_94 (by decide) ?_
      obtain ⟨v_13, ev_13, hf⟩ := ob hf
      refine tw_V (some (.int v_13.1)) (rs := [.int v_13.1]) (rest := []) (As := [.int (1 : Int32)]) X I (mX4_wrongs X.2.2.2.2.1 ev_13) lvX4_wrongs hdX4_wrongs ⟨Nat.le_trans (Nat.le_of_ble_eq_true rfl) hR.1, Nat.le_trans (Nat.le_of_ble_eq_true rfl) hR.2⟩ rfl hl.1 rfl (Nat.le_of_ble_eq_true rfl) rfl dX4_comparisonRead_95 (fun H locs cells slots I => ?_)
      refine lv_pop hx hb dX4_comparisonRead_98 rfl ?_
      exact wX4_comparisonRead_99 hR X N _ _ _ _ _ _ _ I (lv_sub hl [1, 0] rfl) hf
theorem wX4_comparisonRead_36 {E : EV} {l : Launch} {p : Program} {e : Env} {s : State} {m : MethodId} {args : Array Value} {below : List Frame} {meth : Method} {c : Code} {R : Room} {h : Nat} {S : St} {res : TS} (hR : 5 ≤ R.frames ∧ 105 ≤ R.locals) (X : MX E p s m args meth c cX4_comparisonRead 2 none RX4 "comparisonRead") (N : Nat) (r0 : TS → Option TS) (hr0 : ∀ (σ : TS) (H : Heap) (locs : List Loc) (cells slots : Nat) (ls : Array Slot), WI E R s (twS h σ S) H locs cells slots → lv_has ls 2 [(0, .ref h)] → r0 σ = some res → W p l e R s m args below meth c H locs cells slots (MQ below (Qd E R.cells R.slots none (twS h res S)) args s R.cells R.slots (fr E)) (F0 m 0 ls [])) : ∀ (y1 : Int32) (σ : TS) (H : Heap) (locs : List Loc) (cells slots : Nat) (ls : Array Slot), WI E R s (twS h σ S) H locs cells slots → lv_has ls 2 [(0, .ref h)] → fX4_comparisonRead_36 N r0 y1 σ = some res → W p l e R s m args below meth c H locs cells slots (MQ below (Qd E R.cells R.slots none (twS h res S)) args s R.cells R.slots (fr E)) (F0 m 36 ls [.int y1, .ref h]) := by
  intro y1 σ H locs cells slots ls I hl hf
  obtain ⟨⟨hx, hb, hml, hown, hts⟩, -⟩ := id X
  unfold fX4_comparisonRead_36 at hf
  obtain ⟨v_15, ev_15, hf⟩ := ob hf
  refine tw_V (some (.int v_15.1)) (rs := [.int v_15.1]) (rest := []) (As := [.int y1]) X I (mX4_goesIn X.2.2.2.2.1 ev_15) lvX4_goesIn hdX4_goesIn ⟨Nat.le_trans (Nat.le_of_ble_eq_true rfl) hR.1, Nat.le_trans (Nat.le_of_ble_eq_true rfl) hR.2⟩ rfl hl.1 rfl (Nat.le_of_ble_eq_true rfl) rfl dX4_comparisonRead_36 (fun H locs cells slots I => ?_)
  refine lv_if_ne (tgt := 0) hx hb dX4_comparisonRead_39 (by decide) (fun c_39 => ?_) (fun c_39 => ?_)
  · have hf := im c_39 hf
    exact hr0 _ _ _ _ _ _ I (lv_sub hl [0] rfl) hf
  · have hf := ip c_39 hf
    cases os hf
    exact r_vret X I dX4_comparisonRead_42
theorem wX4_comparisonRead_19 {E : EV} {l : Launch} {p : Program} {e : Env} {s : State} {m : MethodId} {args : Array Value} {below : List Frame} {meth : Method} {c : Code} {R : Room} {h : Nat} {S : St} {res : TS} (hR : 5 ≤ R.frames ∧ 105 ≤ R.locals) (X : MX E p s m args meth c cX4_comparisonRead 2 none RX4 "comparisonRead") (N : Nat) (r0 : TS → Option TS) (hr0 : ∀ (σ : TS) (H : Heap) (locs : List Loc) (cells slots : Nat) (ls : Array Slot), WI E R s (twS h σ S) H locs cells slots → lv_has ls 2 [(0, .ref h)] → r0 σ = some res → W p l e R s m args below meth c H locs cells slots (MQ below (Qd E R.cells R.slots none (twS h res S)) args s R.cells R.slots (fr E)) (F0 m 0 ls [])) : ∀ (σ : TS) (H : Heap) (locs : List Loc) (cells slots : Nat) (ls : Array Slot), WI E R s (twS h σ S) H locs cells slots → lv_has ls 2 [(0, .ref h)] → fX4_comparisonRead_19 N r0 σ = some res → W p l e R s m args below meth c H locs cells slots (MQ below (Qd E R.cells R.slots none (twS h res S)) args s R.cells R.slots (fr E)) (F0 m 19 ls []) := by
  intro σ H locs cells slots ls I hl hf
  obtain ⟨⟨hx, hb, hml, hown, hts⟩, -⟩ := id X
  unfold fX4_comparisonRead_19 at hf
  refine lv_aload_n hx hb dX4_comparisonRead_19 rfl (lv_at hl 0 rfl) ?_
  refine lv_aload_n hx hb dX4_comparisonRead_20 rfl (lv_at hl 0 rfl) ?_
  refine lv_ldc2 (v := 10631) hx hb hown (hts _ q3277) dX4_comparisonRead_21 ?_
  obtain ⟨v_17, ev_17, hf⟩ := ob hf
  refine tw_V (some (.int v_17)) (rs := [.int v_17, .ref h]) (rest := [.ref h]) (As := [.long (10631 : Int64)]) X I (mX4_isWord X.2.2.2.2.1 ev_17) lvX4_isWord hdX4_isWord ⟨Nat.le_trans (Nat.le_of_ble_eq_true rfl) hR.1, Nat.le_trans (Nat.le_of_ble_eq_true rfl) hR.2⟩ rfl hl.1 rfl (Nat.le_of_ble_eq_true rfl) rfl dX4_comparisonRead_24 (fun H locs cells slots I => ?_)
  refine lv_if_eq (tgt := 35) hx hb dX4_comparisonRead_27 (by decide) (fun c_27 => ?_) (fun c_27 => ?_)
  · have hf := ip c_27 hf
    refine lv_iconst (v := 1) hx hb dX4_comparisonRead_35 (by decide) ?_
    exact wX4_comparisonRead_36 hR X N r0 hr0 _ _ _ _ _ _ _ I (lv_sub hl [0] rfl) hf
  · have hf := im c_27 hf
    refine lv_bipush (v := 23) hx hb dX4_comparisonRead_30 (by decide) ?_
    refine lv_goto (tgt := 36) hx hb dX4_comparisonRead_32 (by decide) ?_
    exact wX4_comparisonRead_36 hR X N r0 hr0 _ _ _ _ _ _ _ I (lv_sub hl [0] rfl) hf
theorem wX4_comparisonRead_0 {E : EV} {l : Launch} {p : Program} {e : Env} {s : State} {m : MethodId} {args : Array Value} {below : List Frame} {meth : Method} {c : Code} {R : Room} {h : Nat} {S : St} {res : TS} (hR : 5 ≤ R.frames ∧ 105 ≤ R.locals) (X : MX E p s m args meth c cX4_comparisonRead 2 none RX4 "comparisonRead") (N : Nat) : ∀ (n : Nat) (σ : TS) (H : Heap) (locs : List Loc) (cells slots : Nat) (ls : Array Slot), WI E R s (twS h σ S) H locs cells slots → lv_has ls 2 [(0, .ref h)] → fX4_comparisonRead_0 N n σ = some res → W p l e R s m args below meth c H locs cells slots (MQ below (Qd E R.cells R.slots none (twS h res S)) args s R.cells R.slots (fr E)) (F0 m 0 ls []) := by
  intro n
  induction n with
  | zero => intro σ H locs cells slots ls I hl hf; exact nomatch (show none = some res from hf)
  | succ n ih =>
    intro σ H locs cells slots ls I hl hf
    obtain ⟨⟨hx, hb, hml, hown, hts⟩, -⟩ := id X
    rw [fX4_comparisonRead_0.eq_2] at hf
    refine lv_aload_n hx hb dX4_comparisonRead_0 rfl (lv_at hl 0 rfl) ?_
    refine lv_ldc2 (v := 10631) hx hb hown (hts _ q3277) dX4_comparisonRead_1 ?_
    obtain ⟨v_19, ev_19, hf⟩ := ob hf
    refine tw_V (some (.int v_19)) (rs := [.int v_19]) (rest := []) (As := [.long (10631 : Int64)]) X I (mX4_isWord X.2.2.2.2.1 ev_19) lvX4_isWord hdX4_isWord ⟨Nat.le_trans (Nat.le_of_ble_eq_true rfl) hR.1, Nat.le_trans (Nat.le_of_ble_eq_true rfl) hR.2⟩ rfl hl.1 rfl (Nat.le_of_ble_eq_true rfl) rfl dX4_comparisonRead_4 (fun H locs cells slots I => ?_)
    refine lv_if_ne (tgt := 19) hx hb dX4_comparisonRead_7 (by decide) (fun c_7 => ?_) (fun c_7 => ?_)
    · have hf := im c_7 hf
      exact wX4_comparisonRead_19 hR X N (fX4_comparisonRead_0 N n) ih _ _ _ _ _ _ I (lv_sub hl [0] rfl) hf
    · have hf := ip c_7 hf
      refine lv_aload_n hx hb dX4_comparisonRead_10 rfl (lv_at hl 0 rfl) ?_
      refine lv_bipush (v := 40) hx hb dX4_comparisonRead_11 (by decide) ?_
      obtain ⟨v_21, ev_21, hf⟩ := ob hf
      refine tw_V (some (.int v_21)) (rs := [.int v_21]) (rest := []) (As := [.int (40 : Int32)]) X I (mX4_isByte X.2.2.2.2.1 ev_21) lvX4_isByte hdX4_isByte ⟨Nat.le_trans (Nat.le_of_ble_eq_true rfl) hR.1, Nat.le_trans (Nat.le_of_ble_eq_true rfl) hR.2⟩ rfl hl.1 rfl (Nat.le_of_ble_eq_true rfl) rfl dX4_comparisonRead_13 (fun H locs cells slots I => ?_)
      refine lv_if_eq (tgt := 43) hx hb dX4_comparisonRead_16 (by decide) (fun c_16 => ?_) (fun c_16 => ?_)
      · have hf := ip c_16 hf
        refine lv_aload_n hx hb dX4_comparisonRead_43 rfl (lv_at hl 0 rfl) ?_
        obtain ⟨σ_24, eσ_24, hf⟩ := ob hf
        refine tw_V none (rs := []) (rest := []) (As := []) X I (mX4_valueRead X.2.2.2.2.1 eσ_24) lvX4_valueRead hdX4_valueRead ⟨Nat.le_trans (Nat.le_of_ble_eq_true rfl) hR.1, Nat.le_trans (Nat.le_of_ble_eq_true rfl) hR.2⟩ rfl hl.1 rfl (Nat.le_of_ble_eq_true rfl) rfl dX4_comparisonRead_44 (fun H locs cells slots I => ?_)
        refine lv_aload_n hx hb dX4_comparisonRead_47 rfl (lv_at hl 0 rfl) ?_
        refine lv_bipush (v := 60) hx hb dX4_comparisonRead_48 (by decide) ?_
        obtain ⟨v_25, ev_25, hf⟩ := ob hf
        refine tw_V (some (.int v_25)) (rs := [.int v_25]) (rest := []) (As := [.int (60 : Int32)]) X I (mX4_isByte X.2.2.2.2.1 ev_25) lvX4_isByte hdX4_isByte ⟨Nat.le_trans (Nat.le_of_ble_eq_true rfl) hR.1, Nat.le_trans (Nat.le_of_ble_eq_true rfl) hR.2⟩ rfl hl.1 rfl (Nat.le_of_ble_eq_true rfl) rfl dX4_comparisonRead_50 (fun H locs cells slots I => ?_)
        refine lv_if_eq (tgt := 61) hx hb dX4_comparisonRead_53 (by decide) (fun c_53 => ?_) (fun c_53 => ?_)
        · have hf := ip c_53 hf
          refine lv_aload_n hx hb dX4_comparisonRead_61 rfl (lv_at hl 0 rfl) ?_
          refine lv_bipush (v := 62) hx hb dX4_comparisonRead_62 (by decide) ?_
          obtain ⟨v_27, ev_27, hf⟩ := ob hf
          refine tw_V (some (.int v_27)) (rs := [.int v_27]) (rest := []) (As := [.int (62 : Int32)]) X I (mX4_isByte X.2.2.2.2.1 ev_27) lvX4_isByte hdX4_isByte ⟨Nat.le_trans (Nat.le_of_ble_eq_true rfl) hR.1, Nat.le_trans (Nat.le_of_ble_eq_true rfl) hR.2⟩ rfl hl.1 rfl (Nat.le_of_ble_eq_true rfl) rfl dX4_comparisonRead_64 (fun H locs cells slots I => ?_)
          refine lv_if_eq (tgt := 75) hx hb dX4_comparisonRead_67 (by decide) (fun c_67 => ?_) (fun c_67 => ?_)
          · have hf := ip c_67 hf
            refine lv_bipush (v := 21) hx hb dX4_comparisonRead_75 (by decide) ?_
            exact wX4_comparisonRead_77 hR X N _ _ _ _ _ _ _ I (lv_sub hl [0] rfl) hf
          · have hf := im c_67 hf
            refine lv_bipush (v := 22) hx hb dX4_comparisonRead_70 (by decide) ?_
            refine lv_goto (tgt := 77) hx hb dX4_comparisonRead_72 (by decide) ?_
            exact wX4_comparisonRead_77 hR X N _ _ _ _ _ _ _ I (lv_sub hl [0] rfl) hf
        · have hf := im c_53 hf
          refine lv_bipush (v := 20) hx hb dX4_comparisonRead_56 (by decide) ?_
          refine lv_goto (tgt := 77) hx hb dX4_comparisonRead_58 (by decide) ?_
          exact wX4_comparisonRead_77 hR X N _ _ _ _ _ _ _ I (lv_sub hl [0] rfl) hf
      · have hf := im c_16 hf
        exact wX4_comparisonRead_19 hR X N (fX4_comparisonRead_0 N n) ih _ _ _ _ _ _ I (lv_sub hl [0] rfl) hf
theorem mX4_comparisonRead {E : EV} {l : Launch} {h : Nat} {S : St} {N : Nat} {σ : TS} {res : TS} (hE : EK E) (hf : fX4_comparisonRead N σ = some res) : CM E l yX4_comparisonRead (ws_ yX4_comparisonRead cX4_comparisonRead 2 none) 5 105 [.ref h] (twS h σ S) none (twS h res S) := by
  refine CM.of hE (by decide) rfl rfl (Nat.le_of_ble_eq_true rfl) ?_
  intro p e s m below meth c X I ls hl
  exact wX4_comparisonRead_0 ⟨Nat.le_refl _, Nat.le_refl _⟩ X N N _ _ _ _ _ _ I hl hf
/-! strength(I)I -/
theorem lvX4_strength : GoodIn lw_all (va_wsS RX4 464 yX4_strength (ws_ yX4_strength cX4_strength 1 (some .int))) := lw_S q3311 q3312 q120 q3313
theorem hdX4_strength : yX4_strength.cls ≠ "java/lang/invoke/MethodHandle" ∧ yX4_strength.cls ≠ "java/lang/invoke/VarHandle" ∧ (parseMethodDescriptor yX4_strength.desc).map (fun d => d.parameters.length) = some 1 := by decide +kernel
theorem wX4_strength_0 {E : EV} {l : Launch} {p : Program} {e : Env} {s : State} {m : MethodId} {args : Array Value} {below : List Frame} {meth : Method} {c : Code} {R : Room} {σ : St} {res : Int32} (hR : 0 ≤ R.frames ∧ 0 ≤ R.locals) (X : MX E p s m args meth c cX4_strength 1 (some .int) RX4 "strength") : ∀ (x0 : Int32) (H : Heap) (locs : List Loc) (cells slots : Nat) (ls : Array Slot), WI E R s σ H locs cells slots → lv_has ls 1 [(0, .int x0)] → fX4_strength x0 = some res → W p l e R s m args below meth c H locs cells slots (MQ below (Qd E R.cells R.slots (some (.int res)) σ) args s R.cells R.slots (fr E)) (F0 m 0 ls []) := by
  intro x0 H locs cells slots ls I hl hf
  obtain ⟨⟨hx, hb, hml, hown, hts⟩, -⟩ := id X
  unfold fX4_strength at hf
  refine lv_iload_n hx hb dX4_strength_0 rfl (lv_at hl 0 rfl) ?_
  refine lv_bipush (v := 25) hx hb dX4_strength_1 (by decide) ?_
  refine lv_icmp_ne (tgt := 10) hx hb dX4_strength_3 (by decide) (fun c_3 => ?_) (fun c_3 => ?_)
  · have hf := im c_3 hf
    refine lv_iload_n hx hb dX4_strength_10 rfl (lv_at hl 0 rfl) ?_
    refine lv_bipush (v := 24) hx hb dX4_strength_11 (by decide) ?_
    refine lv_icmp_ne (tgt := 20) hx hb dX4_strength_13 (by decide) (fun c_13 => ?_) (fun c_13 => ?_)
    · have hf := im c_13 hf
      refine lv_iload_n hx hb dX4_strength_20 rfl (lv_at hl 0 rfl) ?_
      refine lv_bipush (v := 23) hx hb dX4_strength_21 (by decide) ?_
      refine lv_icmp_ne (tgt := 30) hx hb dX4_strength_23 (by decide) (fun c_23 => ?_) (fun c_23 => ?_)
      · have hf := im c_23 hf
        refine lv_iconst (v := 0) hx hb dX4_strength_30 (by decide) ?_
        cases os hf
        exact r_iret X I dX4_strength_31
      · have hf := ip c_23 hf
        refine lv_iconst (v := 3) hx hb dX4_strength_26 (by decide) ?_
        refine lv_goto (tgt := 31) hx hb dX4_strength_27 (by decide) ?_
        cases os hf
        exact r_iret X I dX4_strength_31
    · have hf := ip c_13 hf
      refine lv_iconst (v := 2) hx hb dX4_strength_16 (by decide) ?_
      refine lv_goto (tgt := 31) hx hb dX4_strength_17 (by decide) ?_
      cases os hf
      exact r_iret X I dX4_strength_31
  · have hf := ip c_3 hf
    refine lv_iconst (v := 1) hx hb dX4_strength_6 (by decide) ?_
    refine lv_goto (tgt := 31) hx hb dX4_strength_7 (by decide) ?_
    cases os hf
    exact r_iret X I dX4_strength_31
theorem mX4_strength {E : EV} {l : Launch} {σ : St} {x0 : Int32} {res : Int32} (hE : EK E) (hf : fX4_strength x0 = some res) : CM E l yX4_strength (ws_ yX4_strength cX4_strength 1 (some .int)) 0 0 [.int x0] σ (some (.int res)) σ := by
  refine CM.of hE (by decide) rfl rfl (Nat.le_of_ble_eq_true rfl) ?_
  intro p e s m below meth c X I ls hl
  exact wX4_strength_0 ⟨Nat.le_refl _, Nat.le_refl _⟩ X _ _ _ _ _ _ I hl hf
/-! settles(I)V -/
theorem lvX4_settles : GoodIn lw_all (wsV RX4 475 RX4 yX4_settles (ws_ yX4_settles cX4_settles 2 none)) := lw_V q3307 q3309 qs108 q120 q3310
theorem hdX4_settles : yX4_settles.cls = RX4 ∧ yX4_settles.cls ≠ "java/lang/invoke/MethodHandle" ∧ yX4_settles.cls ≠ "java/lang/invoke/VarHandle" ∧ (parseMethodDescriptor yX4_settles.desc).map (fun d => d.parameters.length) = some 1 := by decide +kernel
theorem wX4_settles_0 {E : EV} {l : Launch} {p : Program} {e : Env} {s : State} {m : MethodId} {args : Array Value} {below : List Frame} {meth : Method} {c : Code} {R : Room} {h : Nat} {S : St} {res : TS} (hR : 1 ≤ R.frames ∧ 21 ≤ R.locals) (X : MX E p s m args meth c cX4_settles 2 none RX4 "settles") (N : Nat) : ∀ (n : Nat) (x1 : Int32) (σ : TS) (H : Heap) (locs : List Loc) (cells slots : Nat) (ls : Array Slot), WI E R s (twS h σ S) H locs cells slots → lv_has ls 2 [(0, .ref h), (1, .int x1)] → fX4_settles_0 N n x1 σ = some res → W p l e R s m args below meth c H locs cells slots (MQ below (Qd E R.cells R.slots none (twS h res S)) args s R.cells R.slots (fr E)) (F0 m 0 ls []) := by
  intro n
  induction n with
  | zero => intro x1 σ H locs cells slots ls I hl hf; exact nomatch (show none = some res from hf)
  | succ n ih =>
    intro x1 σ H locs cells slots ls I hl hf
    obtain ⟨⟨hx, hb, hml, hown, hts⟩, -⟩ := id X
    rw [fX4_settles_0.eq_2] at hf
    refine lv_aload_n hx hb dX4_settles_0 rfl (lv_at hl 0 rfl) ?_
    obtain ⟨v_1, ev_1, hf⟩ := ob hf
    refine tw_V (some (.int v_1)) (rs := [.int v_1]) (rest := []) (As := []) X I (mX4_isGood X.2.2.2.2.1 ev_1) lvX4_isGood hdX4_isGood ⟨Nat.le_trans (Nat.le_of_ble_eq_true rfl) hR.1, Nat.le_trans (Nat.le_of_ble_eq_true rfl) hR.2⟩ rfl hl.1 rfl (Nat.le_of_ble_eq_true rfl) rfl dX4_settles_1 (fun H locs cells slots I => ?_)
    refine lv_if_eq (tgt := 82) hx hb dX4_settles_4 (by decide) (fun c_4 => ?_) (fun c_4 => ?_)
    · have hf := ip c_4 hf
      cases os hf
      exact r_vret X I dX4_settles_82
    · have hf := im c_4 hf
      refine lv_aload_n hx hb dX4_settles_7 rfl (lv_at hl 0 rfl) ?_
      refine tw_get X I 52 (v := .int (σ.1 0 52)) (by decide) q2739 rfl dX4_settles_8 ?_
      refine lv_if_le (tgt := 82) hx hb dX4_settles_11 (by decide) (fun c_11 => ?_) (fun c_11 => ?_)
      · have hf := ip c_11 hf
        cases os hf
        exact r_vret X I dX4_settles_82
      · have hf := im c_11 hf
        refine lv_aload_n hx hb dX4_settles_14 rfl (lv_at hl 0 rfl) ?_
        refine tw_get X I 49 (v := .ref (h + 23)) (by decide) q2736 rfl dX4_settles_15 ?_
        refine lv_aload_n hx hb dX4_settles_18 rfl (lv_at hl 0 rfl) ?_
        refine tw_get X I 52 (v := .int (σ.1 0 52)) (by decide) q2739 rfl dX4_settles_19 ?_
        refine lv_iconst (v := 1) hx hb dX4_settles_22 (by decide) ?_
        refine lv_isub hx hb dX4_settles_23 ?_
        obtain ⟨v_3, ev_3, hf⟩ := ob hf
        refine tw_ald X I 23 (by decide) (by decide) (by decide) ev_3 dX4_settles_24 ?_
        obtain ⟨v_4, ev_4, hf⟩ := ob hf
        refine tw_S (some (.int v_4)) (rs := [.int v_4]) (rest := []) (As := [.int v_3]) X I (mX4_strength X.2.2.2.2.1 ev_4) lvX4_strength hdX4_strength ⟨Nat.le_trans (Nat.le_of_ble_eq_true rfl) hR.1, Nat.le_trans (Nat.le_of_ble_eq_true rfl) hR.2⟩ rfl hl.1 rfl (Nat.le_of_ble_eq_true rfl) rfl dX4_settles_25 (fun H locs cells slots I => ?_)
        refine lv_iload_n hx hb dX4_settles_28 rfl (lv_at hl 1 rfl) ?_
        refine lv_icmp_lt (tgt := 82) hx hb dX4_settles_29 (by decide) (fun c_29 => ?_) (fun c_29 => ?_)
        · have hf := ip c_29 hf
          cases os hf
          exact r_vret X I dX4_settles_82
        · have hf := im c_29 hf
          refine lv_aload_n hx hb dX4_settles_32 rfl (lv_at hl 0 rfl) ?_
          refine lv_dup hx hb dX4_settles_33 rfl ?_
          refine tw_get X I 52 (v := .int (σ.1 0 52)) (by decide) q2739 rfl dX4_settles_34 ?_
          refine lv_iconst (v := 1) hx hb dX4_settles_37 (by decide) ?_
          refine lv_isub hx hb dX4_settles_38 ?_
          obtain ⟨σ_6, eσ_6, hf⟩ := ol hf
          refine tw_put X I 52 (ty := .int) (by decide) (by decide) rfl q2739 rfl rfl rfl rfl eσ_6 dX4_settles_39 (fun H locs I => ?_)
          refine lv_aload_n hx hb dX4_settles_42 rfl (lv_at hl 0 rfl) ?_
          refine lv_aload_n hx hb dX4_settles_43 rfl (lv_at hl 0 rfl) ?_
          refine tw_get X I 49 (v := .ref (h + 23)) (by decide) q2736 rfl dX4_settles_44 ?_
          refine lv_aload_n hx hb dX4_settles_47 rfl (lv_at hl 0 rfl) ?_
          refine tw_get X I 52 (v := .int (σ_6.1 0 52)) (by decide) q2739 rfl dX4_settles_48 ?_
          obtain ⟨v_7, ev_7, hf⟩ := ob hf
          refine tw_ald X I 23 (by decide) (by decide) (by decide) ev_7 dX4_settles_51 ?_
          obtain ⟨σ_9, eσ_9, hf⟩ := ob hf
          refine tw_V none (rs := []) (rest := []) (As := [.int v_7]) X I (mX4_adds X.2.2.2.2.1 eσ_9) lvX4_adds hdX4_adds ⟨Nat.le_trans (Nat.le_of_ble_eq_true rfl) hR.1, Nat.le_trans (Nat.le_of_ble_eq_true rfl) hR.2⟩ rfl hl.1 rfl (Nat.le_of_ble_eq_true rfl) rfl dX4_settles_52 (fun H locs cells slots I => ?_)
          refine lv_aload_n hx hb dX4_settles_55 rfl (lv_at hl 0 rfl) ?_
          refine tw_get X I 49 (v := .ref (h + 23)) (by decide) q2736 rfl dX4_settles_56 ?_
          refine lv_aload_n hx hb dX4_settles_59 rfl (lv_at hl 0 rfl) ?_
          refine tw_get X I 52 (v := .int (σ_9.1 0 52)) (by decide) q2739 rfl dX4_settles_60 ?_
          obtain ⟨v_10, ev_10, hf⟩ := ob hf
          refine tw_ald X I 23 (by decide) (by decide) (by decide) ev_10 dX4_settles_63 ?_
          refine lv_bipush (v := 23) hx hb dX4_settles_64 (by decide) ?_
          refine lv_icmp_ne (tgt := 0) hx hb dX4_settles_66 (by decide) (fun c_66 => ?_) (fun c_66 => ?_)
          · have hf := im c_66 hf
            exact ih _ _ _ _ _ _ _ I (lv_sub hl [0, 1] rfl) hf
          · have hf := ip c_66 hf
            refine lv_aload_n hx hb dX4_settles_69 rfl (lv_at hl 0 rfl) ?_
            refine lv_dup hx hb dX4_settles_70 rfl ?_
            refine tw_get X I 53 (v := .int (σ_9.1 0 53)) (by decide) q2740 rfl dX4_settles_71 ?_
            refine lv_iconst (v := 1) hx hb dX4_settles_74 (by decide) ?_
            refine lv_isub hx hb dX4_settles_75 ?_
            obtain ⟨σ_11, eσ_11, hf⟩ := ol hf
            refine tw_put X I 53 (ty := .int) (by decide) (by decide) rfl q2740 rfl rfl rfl rfl eσ_11 dX4_settles_76 (fun H locs I => ?_)
            refine lv_goto (tgt := 0) hx hb dX4_settles_79 (by decide) ?_
            exact ih _ _ _ _ _ _ _ I (lv_sub hl [0, 1] rfl) hf
theorem mX4_settles {E : EV} {l : Launch} {h : Nat} {S : St} {N : Nat} {σ : TS} {x1 : Int32} {res : TS} (hE : EK E) (hf : fX4_settles N σ x1 = some res) : CM E l yX4_settles (ws_ yX4_settles cX4_settles 2 none) 1 21 [.ref h, .int x1] (twS h σ S) none (twS h res S) := by
  refine CM.of hE (by decide) rfl rfl (Nat.le_of_ble_eq_true rfl) ?_
  intro p e s m below meth c X I ls hl
  exact wX4_settles_0 ⟨Nat.le_refl _, Nat.le_refl _⟩ X N N _ _ _ _ _ _ _ I hl hf
/-! isInside()Z -/
theorem lvX4_isInside : GoodIn lw_all (wsV RX4 478 RX4 yX4_isInside (ws_ yX4_isInside cX4_isInside 2 (some .boolean))) := lw_V q3314 q3316 qs109 q120 q3317
theorem hdX4_isInside : yX4_isInside.cls = RX4 ∧ yX4_isInside.cls ≠ "java/lang/invoke/MethodHandle" ∧ yX4_isInside.cls ≠ "java/lang/invoke/VarHandle" ∧ (parseMethodDescriptor yX4_isInside.desc).map (fun d => d.parameters.length) = some 0 := by decide +kernel
theorem wX4_isInside_2 {E : EV} {l : Launch} {p : Program} {e : Env} {s : State} {m : MethodId} {args : Array Value} {below : List Frame} {meth : Method} {c : Code} {R : Room} {h : Nat} {S : St} {σ : TS} {res : Int32} (hR : 0 ≤ R.frames ∧ 0 ≤ R.locals) (X : MX E p s m args meth c cX4_isInside 2 (some .boolean) RX4 "isInside") (N : Nat) : ∀ (n : Nat) (x1 : Int32) (H : Heap) (locs : List Loc) (cells slots : Nat) (ls : Array Slot), WI E R s (twS h σ S) H locs cells slots → lv_has ls 2 [(0, .ref h), (1, .int x1)] → fX4_isInside_2 N σ n x1 = some res → W p l e R s m args below meth c H locs cells slots (MQ below (Qd E R.cells R.slots (some (.int res)) (twS h σ S)) args s R.cells R.slots (fr E)) (F0 m 2 ls []) := by
  intro n
  induction n with
  | zero => intro x1 H locs cells slots ls I hl hf; exact nomatch (show none = some res from hf)
  | succ n ih =>
    intro x1 H locs cells slots ls I hl hf
    obtain ⟨⟨hx, hb, hml, hown, hts⟩, -⟩ := id X
    rw [fX4_isInside_2.eq_2] at hf
    refine lv_iload_n hx hb dX4_isInside_2 rfl (lv_at hl 1 rfl) ?_
    refine lv_aload_n hx hb dX4_isInside_3 rfl (lv_at hl 0 rfl) ?_
    refine tw_get X I 52 (v := .int (σ.1 0 52)) (by decide) q2739 rfl dX4_isInside_4 ?_
    refine lv_icmp_ge (tgt := 28) hx hb dX4_isInside_7 (by decide) (fun c_7 => ?_) (fun c_7 => ?_)
    · have hf := ip c_7 hf
      refine lv_iconst (v := 0) hx hb dX4_isInside_28 (by decide) ?_
      cases os hf
      exact r_zret X I (Or.inl rfl) dX4_isInside_29
    · have hf := im c_7 hf
      refine lv_aload_n hx hb dX4_isInside_10 rfl (lv_at hl 0 rfl) ?_
      refine tw_get X I 49 (v := .ref (h + 23)) (by decide) q2736 rfl dX4_isInside_11 ?_
      refine lv_iload_n hx hb dX4_isInside_14 rfl (lv_at hl 1 rfl) ?_
      obtain ⟨v_1, ev_1, hf⟩ := ob hf
      refine tw_ald X I 23 (by decide) (by decide) (by decide) ev_1 dX4_isInside_15 ?_
      refine lv_iconst (v := 1) hx hb dX4_isInside_16 (by decide) ?_
      refine lv_icmp_ne (tgt := 22) hx hb dX4_isInside_17 (by decide) (fun c_17 => ?_) (fun c_17 => ?_)
      · have hf := im c_17 hf
        obtain ⟨x1_2, ex1_2, hf⟩ := ol hf
        refine lv_iinc (v := x1_2) (lv' := [(1, .int x1_2), (0, .ref h)]) hx hb dX4_isInside_22 hl (k := 1) rfl ex1_2 (by decide) rfl (fun ls hl => ?_)
        refine lv_goto (tgt := 2) hx hb dX4_isInside_25 (by decide) ?_
        exact ih _ _ _ _ _ _ I (lv_sub hl [1, 0] rfl) hf
      · have hf := ip c_17 hf
        refine lv_iconst (v := 1) hx hb dX4_isInside_20 (by decide) ?_
        cases os hf
        exact r_zret X I (Or.inr rfl) dX4_isInside_21
theorem wX4_isInside_0 {E : EV} {l : Launch} {p : Program} {e : Env} {s : State} {m : MethodId} {args : Array Value} {below : List Frame} {meth : Method} {c : Code} {R : Room} {h : Nat} {S : St} {σ : TS} {res : Int32} (hR : 0 ≤ R.frames ∧ 0 ≤ R.locals) (X : MX E p s m args meth c cX4_isInside 2 (some .boolean) RX4 "isInside") (N : Nat) : ∀ (H : Heap) (locs : List Loc) (cells slots : Nat) (ls : Array Slot), WI E R s (twS h σ S) H locs cells slots → lv_has ls 2 [(0, .ref h)] → fX4_isInside N σ = some res → W p l e R s m args below meth c H locs cells slots (MQ below (Qd E R.cells R.slots (some (.int res)) (twS h σ S)) args s R.cells R.slots (fr E)) (F0 m 0 ls []) := by
  intro  H locs cells slots ls I hl hf
  obtain ⟨⟨hx, hb, hml, hown, hts⟩, -⟩ := id X
  unfold fX4_isInside at hf
  refine lv_iconst (v := 0) hx hb dX4_isInside_0 (by decide) ?_
  refine lv_istore_n (lv' := [(1, .int (0 : Int32)), (0, .ref h)]) hx hb dX4_isInside_1 rfl hl (by decide) rfl (fun ls hl => ?_)
  exact wX4_isInside_2 hR X N N _ _ _ _ _ _ I (lv_sub hl [1, 0] rfl) hf
theorem mX4_isInside {E : EV} {l : Launch} {h : Nat} {S : St} {N : Nat} {σ : TS} {res : Int32} (hE : EK E) (hf : fX4_isInside N σ = some res) : CM E l yX4_isInside (ws_ yX4_isInside cX4_isInside 2 (some .boolean)) 0 0 [.ref h] (twS h σ S) (some (.int res)) (twS h σ S) := by
  refine CM.of hE (by decide) rfl rfl (Nat.le_of_ble_eq_true rfl) ?_
  intro p e s m below meth c X I ls hl
  exact wX4_isInside_0 ⟨Nat.le_refl _, Nat.le_refl _⟩ X N  _ _ _ _ _ I hl hf
/-! closes()V -/
theorem lvX4_closes : GoodIn lw_all (wsV RX4 484 RX4 yX4_closes (ws_ yX4_closes cX4_closes 1 none)) := lw_V q3303 q3305 qs107 q120 q3306
theorem hdX4_closes : yX4_closes.cls = RX4 ∧ yX4_closes.cls ≠ "java/lang/invoke/MethodHandle" ∧ yX4_closes.cls ≠ "java/lang/invoke/VarHandle" ∧ (parseMethodDescriptor yX4_closes.desc).map (fun d => d.parameters.length) = some 0 := by decide +kernel
theorem wX4_closes_5 {E : EV} {l : Launch} {p : Program} {e : Env} {s : State} {m : MethodId} {args : Array Value} {below : List Frame} {meth : Method} {c : Code} {R : Room} {h : Nat} {S : St} {res : TS} (hR : 3 ≤ R.frames ∧ 61 ≤ R.locals) (X : MX E p s m args meth c cX4_closes 1 none RX4 "closes") (N : Nat) : ∀ (n : Nat) (σ : TS) (H : Heap) (locs : List Loc) (cells slots : Nat) (ls : Array Slot), WI E R s (twS h σ S) H locs cells slots → lv_has ls 1 [(0, .ref h)] → fX4_closes_5 N n σ = some res → W p l e R s m args below meth c H locs cells slots (MQ below (Qd E R.cells R.slots none (twS h res S)) args s R.cells R.slots (fr E)) (F0 m 5 ls []) := by
  intro n
  induction n with
  | zero => intro σ H locs cells slots ls I hl hf; exact nomatch (show none = some res from hf)
  | succ n ih =>
    intro σ H locs cells slots ls I hl hf
    obtain ⟨⟨hx, hb, hml, hown, hts⟩, -⟩ := id X
    rw [fX4_closes_5.eq_2] at hf
    refine lv_aload_n hx hb dX4_closes_5 rfl (lv_at hl 0 rfl) ?_
    refine lv_bipush (v := 41) hx hb dX4_closes_6 (by decide) ?_
    obtain ⟨v_1, ev_1, hf⟩ := ob hf
    refine tw_V (some (.int v_1)) (rs := [.int v_1]) (rest := []) (As := [.int (41 : Int32)]) X I (mX4_isByte X.2.2.2.2.1 ev_1) lvX4_isByte hdX4_isByte ⟨Nat.le_trans (Nat.le_of_ble_eq_true rfl) hR.1, Nat.le_trans (Nat.le_of_ble_eq_true rfl) hR.2⟩ rfl hl.1 rfl (Nat.le_of_ble_eq_true rfl) rfl dX4_closes_8 (fun H locs cells slots I => ?_)
    refine lv_if_eq (tgt := 58) hx hb dX4_closes_11 (by decide) (fun c_11 => ?_) (fun c_11 => ?_)
    · have hf := ip c_11 hf
      cases os hf
      exact r_vret X I dX4_closes_58
    · have hf := im c_11 hf
      refine lv_aload_n hx hb dX4_closes_14 rfl (lv_at hl 0 rfl) ?_
      obtain ⟨v_3, ev_3, hf⟩ := ob hf
      refine tw_V (some (.int v_3)) (rs := [.int v_3]) (rest := []) (As := []) X I (mX4_isInside X.2.2.2.2.1 ev_3) lvX4_isInside hdX4_isInside ⟨Nat.le_trans (Nat.le_of_ble_eq_true rfl) hR.1, Nat.le_trans (Nat.le_of_ble_eq_true rfl) hR.2⟩ rfl hl.1 rfl (Nat.le_of_ble_eq_true rfl) rfl dX4_closes_15 (fun H locs cells slots I => ?_)
      refine lv_if_eq (tgt := 58) hx hb dX4_closes_18 (by decide) (fun c_18 => ?_) (fun c_18 => ?_)
      · have hf := ip c_18 hf
        cases os hf
        exact r_vret X I dX4_closes_58
      · have hf := im c_18 hf
        refine lv_aload_n hx hb dX4_closes_21 rfl (lv_at hl 0 rfl) ?_
        refine lv_iconst (v := 1) hx hb dX4_closes_22 (by decide) ?_
        obtain ⟨σ_6, eσ_6, hf⟩ := ob hf
        refine tw_V none (rs := []) (rest := []) (As := [.int (1 : Int32)]) X I (mX4_settles X.2.2.2.2.1 eσ_6) lvX4_settles hdX4_settles ⟨Nat.le_trans (Nat.le_of_ble_eq_true rfl) hR.1, Nat.le_trans (Nat.le_of_ble_eq_true rfl) hR.2⟩ rfl hl.1 rfl (Nat.le_of_ble_eq_true rfl) rfl dX4_closes_23 (fun H locs cells slots I => ?_)
        refine lv_aload_n hx hb dX4_closes_26 rfl (lv_at hl 0 rfl) ?_
        refine lv_dup hx hb dX4_closes_27 rfl ?_
        refine tw_get X I 52 (v := .int (σ_6.1 0 52)) (by decide) q2739 rfl dX4_closes_28 ?_
        refine lv_iconst (v := 1) hx hb dX4_closes_31 (by decide) ?_
        refine lv_isub hx hb dX4_closes_32 ?_
        obtain ⟨σ_7, eσ_7, hf⟩ := ol hf
        refine tw_put X I 52 (ty := .int) (by decide) (by decide) rfl q2739 rfl rfl rfl rfl eσ_7 dX4_closes_33 (fun H locs I => ?_)
        refine lv_aload_n hx hb dX4_closes_36 rfl (lv_at hl 0 rfl) ?_
        refine lv_dup hx hb dX4_closes_37 rfl ?_
        refine tw_get X I 53 (v := .int (σ_7.1 0 53)) (by decide) q2740 rfl dX4_closes_38 ?_
        refine lv_iconst (v := 1) hx hb dX4_closes_41 (by decide) ?_
        refine lv_isub hx hb dX4_closes_42 ?_
        obtain ⟨σ_8, eσ_8, hf⟩ := ol hf
        refine tw_put X I 53 (ty := .int) (by decide) (by decide) rfl q2740 rfl rfl rfl rfl eσ_8 dX4_closes_43 (fun H locs I => ?_)
        refine lv_aload_n hx hb dX4_closes_46 rfl (lv_at hl 0 rfl) ?_
        obtain ⟨σ_10, eσ_10, hf⟩ := ob hf
        refine tw_V none (rs := []) (rest := []) (As := []) X I (mX4_next X.2.2.2.2.1 eσ_10) lvX4_next hdX4_next ⟨Nat.le_trans (Nat.le_of_ble_eq_true rfl) hR.1, Nat.le_trans (Nat.le_of_ble_eq_true rfl) hR.2⟩ rfl hl.1 rfl (Nat.le_of_ble_eq_true rfl) rfl dX4_closes_47 (fun H locs cells slots I => ?_)
        refine lv_aload_n hx hb dX4_closes_50 rfl (lv_at hl 0 rfl) ?_
        refine lv_iconst (v := 3) hx hb dX4_closes_51 (by decide) ?_
        obtain ⟨σ_12, eσ_12, hf⟩ := ob hf
        refine tw_V none (rs := []) (rest := []) (As := [.int (3 : Int32)]) X I (mX4_settles X.2.2.2.2.1 eσ_12) lvX4_settles hdX4_settles ⟨Nat.le_trans (Nat.le_of_ble_eq_true rfl) hR.1, Nat.le_trans (Nat.le_of_ble_eq_true rfl) hR.2⟩ rfl hl.1 rfl (Nat.le_of_ble_eq_true rfl) rfl dX4_closes_52 (fun H locs cells slots I => ?_)
        refine lv_goto (tgt := 5) hx hb dX4_closes_55 (by decide) ?_
        exact ih _ _ _ _ _ _ I (lv_sub hl [0] rfl) hf
theorem wX4_closes_0 {E : EV} {l : Launch} {p : Program} {e : Env} {s : State} {m : MethodId} {args : Array Value} {below : List Frame} {meth : Method} {c : Code} {R : Room} {h : Nat} {S : St} {res : TS} (hR : 3 ≤ R.frames ∧ 61 ≤ R.locals) (X : MX E p s m args meth c cX4_closes 1 none RX4 "closes") (N : Nat) : ∀ (σ : TS) (H : Heap) (locs : List Loc) (cells slots : Nat) (ls : Array Slot), WI E R s (twS h σ S) H locs cells slots → lv_has ls 1 [(0, .ref h)] → fX4_closes N σ = some res → W p l e R s m args below meth c H locs cells slots (MQ below (Qd E R.cells R.slots none (twS h res S)) args s R.cells R.slots (fr E)) (F0 m 0 ls []) := by
  intro σ H locs cells slots ls I hl hf
  obtain ⟨⟨hx, hb, hml, hown, hts⟩, -⟩ := id X
  unfold fX4_closes at hf
  refine lv_aload_n hx hb dX4_closes_0 rfl (lv_at hl 0 rfl) ?_
  refine lv_iconst (v := 3) hx hb dX4_closes_1 (by decide) ?_
  obtain ⟨σ_14, eσ_14, hf⟩ := ob hf
  refine tw_V none (rs := []) (rest := []) (As := [.int (3 : Int32)]) X I (mX4_settles X.2.2.2.2.1 eσ_14) lvX4_settles hdX4_settles ⟨Nat.le_trans (Nat.le_of_ble_eq_true rfl) hR.1, Nat.le_trans (Nat.le_of_ble_eq_true rfl) hR.2⟩ rfl hl.1 rfl (Nat.le_of_ble_eq_true rfl) rfl dX4_closes_2 (fun H locs cells slots I => ?_)
  exact wX4_closes_5 hR X N N _ _ _ _ _ _ I (lv_sub hl [0] rfl) hf
theorem mX4_closes {E : EV} {l : Launch} {h : Nat} {S : St} {N : Nat} {σ : TS} {res : TS} (hE : EK E) (hf : fX4_closes N σ = some res) : CM E l yX4_closes (ws_ yX4_closes cX4_closes 1 none) 3 61 [.ref h] (twS h σ S) none (twS h res S) := by
  refine CM.of hE (by decide) rfl rfl (Nat.le_of_ble_eq_true rfl) ?_
  intro p e s m below meth c X I ls hl
  exact wX4_closes_0 ⟨Nat.le_refl _, Nat.le_refl _⟩ X N _ _ _ _ _ _ I hl hf
/-! reads()V -/
theorem lvX4_reads : GoodIn lw_all (wsV RX4 506 RX4 yX4_reads (ws_ yX4_reads cX4_reads 3 none)) := lw_V q3269 q3271 qs101 q120 q3272
theorem hdX4_reads : yX4_reads.cls = RX4 ∧ yX4_reads.cls ≠ "java/lang/invoke/MethodHandle" ∧ yX4_reads.cls ≠ "java/lang/invoke/VarHandle" ∧ (parseMethodDescriptor yX4_reads.desc).map (fun d => d.parameters.length) = some 0 := by decide +kernel
theorem wX4_reads_151 {E : EV} {l : Launch} {p : Program} {e : Env} {s : State} {m : MethodId} {args : Array Value} {below : List Frame} {meth : Method} {c : Code} {R : Room} {h : Nat} {S : St} {res : TS} (hR : 6 ≤ R.frames ∧ 126 ≤ R.locals) (X : MX E p s m args meth c cX4_reads 3 none RX4 "reads") (N : Nat) : ∀ (σ : TS) (H : Heap) (locs : List Loc) (cells slots : Nat) (ls : Array Slot), WI E R s (twS h σ S) H locs cells slots → lv_has ls 3 [(0, .ref h)] → fX4_reads_151 N σ = some res → W p l e R s m args below meth c H locs cells slots (MQ below (Qd E R.cells R.slots none (twS h res S)) args s R.cells R.slots (fr E)) (F0 m 151 ls []) := by
  intro σ H locs cells slots ls I hl hf
  obtain ⟨⟨hx, hb, hml, hown, hts⟩, -⟩ := id X
  unfold fX4_reads_151 at hf
  refine lv_aload_n hx hb dX4_reads_151 rfl (lv_at hl 0 rfl) ?_
  refine lv_iconst (v := 1) hx hb dX4_reads_152 (by decide) ?_
  obtain ⟨σ_2, eσ_2, hf⟩ := ob hf
  refine tw_V none (rs := []) (rest := []) (As := [.int (1 : Int32)]) X I (mX4_settles X.2.2.2.2.1 eσ_2) lvX4_settles hdX4_settles ⟨Nat.le_trans (Nat.le_of_ble_eq_true rfl) hR.1, Nat.le_trans (Nat.le_of_ble_eq_true rfl) hR.2⟩ rfl hl.1 rfl (Nat.le_of_ble_eq_true rfl) rfl dX4_reads_153 (fun H locs cells slots I => ?_)
  cases os hf
  exact r_vret X I dX4_reads_156
theorem wX4_reads_145 {E : EV} {l : Launch} {p : Program} {e : Env} {s : State} {m : MethodId} {args : Array Value} {below : List Frame} {meth : Method} {c : Code} {R : Room} {h : Nat} {S : St} {res : TS} (hR : 6 ≤ R.frames ∧ 126 ≤ R.locals) (X : MX E p s m args meth c cX4_reads 3 none RX4 "reads") (N : Nat) : ∀ (σ : TS) (H : Heap) (locs : List Loc) (cells slots : Nat) (ls : Array Slot), WI E R s (twS h σ S) H locs cells slots → lv_has ls 3 [(0, .ref h)] → fX4_reads_145 N σ = some res → W p l e R s m args below meth c H locs cells slots (MQ below (Qd E R.cells R.slots none (twS h res S)) args s R.cells R.slots (fr E)) (F0 m 145 ls []) := by
  intro σ H locs cells slots ls I hl hf
  obtain ⟨⟨hx, hb, hml, hown, hts⟩, -⟩ := id X
  unfold fX4_reads_145 at hf
  refine lv_aload_n hx hb dX4_reads_145 rfl (lv_at hl 0 rfl) ?_
  refine lv_iconst (v := 1) hx hb dX4_reads_146 (by decide) ?_
  obtain ⟨v_3, ev_3, hf⟩ := ob hf
  refine tw_V (some (.int v_3.1)) (rs := [.int v_3.1]) (rest := []) (As := [.int (1 : Int32)]) X I (mX4_wrongs X.2.2.2.2.1 ev_3) lvX4_wrongs hdX4_wrongs ⟨Nat.le_trans (Nat.le_of_ble_eq_true rfl) hR.1, Nat.le_trans (Nat.le_of_ble_eq_true rfl) hR.2⟩ rfl hl.1 rfl (Nat.le_of_ble_eq_true rfl) rfl dX4_reads_147 (fun H locs cells slots I => ?_)
  refine lv_pop hx hb dX4_reads_150 rfl ?_
  exact wX4_reads_151 hR X N _ _ _ _ _ _ I (lv_sub hl [0] rfl) hf
theorem wX4_reads_81 {E : EV} {l : Launch} {p : Program} {e : Env} {s : State} {m : MethodId} {args : Array Value} {below : List Frame} {meth : Method} {c : Code} {R : Room} {h : Nat} {S : St} {res : TS} (hR : 6 ≤ R.frames ∧ 126 ≤ R.locals) (X : MX E p s m args meth c cX4_reads 3 none RX4 "reads") (N : Nat) (r20 : Int32 → TS → Option TS) (hr20 : ∀ (x1 : Int32) (σ : TS) (H : Heap) (locs : List Loc) (cells slots : Nat) (ls : Array Slot), WI E R s (twS h σ S) H locs cells slots → lv_has ls 3 [(0, .ref h), (1, .int x1)] → r20 x1 σ = some res → W p l e R s m args below meth c H locs cells slots (MQ below (Qd E R.cells R.slots none (twS h res S)) args s R.cells R.slots (fr E)) (F0 m 20 ls [])) : ∀ (x2 : Int32) (y0 : Int32) (σ : TS) (H : Heap) (locs : List Loc) (cells slots : Nat) (ls : Array Slot), WI E R s (twS h σ S) H locs cells slots → lv_has ls 3 [(0, .ref h), (2, .int x2)] → fX4_reads_81 N r20 x2 y0 σ = some res → W p l e R s m args below meth c H locs cells slots (MQ below (Qd E R.cells R.slots none (twS h res S)) args s R.cells R.slots (fr E)) (F0 m 81 ls [.int y0]) := by
  intro x2 y0 σ H locs cells slots ls I hl hf
  obtain ⟨⟨hx, hb, hml, hown, hts⟩, -⟩ := id X
  unfold fX4_reads_81 at hf
  refine lv_istore_n (lv' := [(1, .int y0), (0, .ref h), (2, .int x2)]) hx hb dX4_reads_81 rfl hl (by decide) rfl (fun ls hl => ?_)
  refine lv_iload_n hx hb dX4_reads_82 rfl (lv_at hl 0 rfl) ?_
  refine lv_if_ne (tgt := 89) hx hb dX4_reads_83 (by decide) (fun c_83 => ?_) (fun c_83 => ?_)
  · have hf := im c_83 hf
    refine lv_aload_n hx hb dX4_reads_89 rfl (lv_at hl 1 rfl) ?_
    refine lv_iload_n hx hb dX4_reads_90 rfl (lv_at hl 2 rfl) ?_
    obtain ⟨v_5, ev_5, hf⟩ := ob hf
    refine tw_S (some (.int v_5)) (rs := [.int v_5, .ref h]) (rest := [.ref h]) (As := [.int x2]) X I (mX4_strength X.2.2.2.2.1 ev_5) lvX4_strength hdX4_strength ⟨Nat.le_trans (Nat.le_of_ble_eq_true rfl) hR.1, Nat.le_trans (Nat.le_of_ble_eq_true rfl) hR.2⟩ rfl hl.1 rfl (Nat.le_of_ble_eq_true rfl) rfl dX4_reads_91 (fun H locs cells slots I => ?_)
    obtain ⟨σ_8, eσ_8, hf⟩ := ob hf
    refine tw_V none (rs := []) (rest := []) (As := [.int v_5]) X I (mX4_settles X.2.2.2.2.1 eσ_8) lvX4_settles hdX4_settles ⟨Nat.le_trans (Nat.le_of_ble_eq_true rfl) hR.1, Nat.le_trans (Nat.le_of_ble_eq_true rfl) hR.2⟩ rfl hl.1 rfl (Nat.le_of_ble_eq_true rfl) rfl dX4_reads_94 (fun H locs cells slots I => ?_)
    refine lv_aload_n hx hb dX4_reads_97 rfl (lv_at hl 1 rfl) ?_
    refine tw_get X I 49 (v := .ref (h + 23)) (by decide) q2736 rfl dX4_reads_98 ?_
    refine lv_aload_n hx hb dX4_reads_101 rfl (lv_at hl 1 rfl) ?_
    refine tw_get X I 52 (v := .int (σ_8.1 0 52)) (by decide) q2739 rfl dX4_reads_102 ?_
    refine lv_iload_n hx hb dX4_reads_105 rfl (lv_at hl 2 rfl) ?_
    obtain ⟨σ_9, eσ_9, hf⟩ := ob hf
    refine tw_ast X I 23 (by decide) (by decide) (by decide) eσ_9 dX4_reads_106 (fun H locs I => ?_)
    refine lv_aload_n hx hb dX4_reads_107 rfl (lv_at hl 1 rfl) ?_
    refine lv_dup hx hb dX4_reads_108 rfl ?_
    refine tw_get X I 52 (v := .int (σ_9.1 0 52)) (by decide) q2739 rfl dX4_reads_109 ?_
    refine lv_iconst (v := 1) hx hb dX4_reads_112 (by decide) ?_
    refine lv_iadd hx hb dX4_reads_113 ?_
    obtain ⟨σ_10, eσ_10, hf⟩ := ol hf
    refine tw_put X I 52 (ty := .int) (by decide) (by decide) rfl q2739 rfl rfl rfl rfl eσ_10 dX4_reads_114 (fun H locs I => ?_)
    refine lv_aload_n hx hb dX4_reads_117 rfl (lv_at hl 1 rfl) ?_
    obtain ⟨σ_12, eσ_12, hf⟩ := ob hf
    refine tw_V none (rs := []) (rest := []) (As := []) X I (mX4_next X.2.2.2.2.1 eσ_12) lvX4_next hdX4_next ⟨Nat.le_trans (Nat.le_of_ble_eq_true rfl) hR.1, Nat.le_trans (Nat.le_of_ble_eq_true rfl) hR.2⟩ rfl hl.1 rfl (Nat.le_of_ble_eq_true rfl) rfl dX4_reads_118 (fun H locs cells slots I => ?_)
    refine lv_goto (tgt := 20) hx hb dX4_reads_121 (by decide) ?_
    exact hr20 _ _ _ _ _ _ _ I (lv_sub hl [1, 0] rfl) hf
  · have hf := ip c_83 hf
    refine lv_goto (tgt := 20) hx hb dX4_reads_86 (by decide) ?_
    exact hr20 _ _ _ _ _ _ _ I (lv_sub hl [1, 0] rfl) hf
theorem wX4_reads_71 {E : EV} {l : Launch} {p : Program} {e : Env} {s : State} {m : MethodId} {args : Array Value} {below : List Frame} {meth : Method} {c : Code} {R : Room} {h : Nat} {S : St} {res : TS} (hR : 6 ≤ R.frames ∧ 126 ≤ R.locals) (X : MX E p s m args meth c cX4_reads 3 none RX4 "reads") (N : Nat) (r20 : Int32 → TS → Option TS) (hr20 : ∀ (x1 : Int32) (σ : TS) (H : Heap) (locs : List Loc) (cells slots : Nat) (ls : Array Slot), WI E R s (twS h σ S) H locs cells slots → lv_has ls 3 [(0, .ref h), (1, .int x1)] → r20 x1 σ = some res → W p l e R s m args below meth c H locs cells slots (MQ below (Qd E R.cells R.slots none (twS h res S)) args s R.cells R.slots (fr E)) (F0 m 20 ls [])) : ∀ (y0 : Int32) (σ : TS) (H : Heap) (locs : List Loc) (cells slots : Nat) (ls : Array Slot), WI E R s (twS h σ S) H locs cells slots → lv_has ls 3 [(0, .ref h)] → fX4_reads_71 N r20 y0 σ = some res → W p l e R s m args below meth c H locs cells slots (MQ below (Qd E R.cells R.slots none (twS h res S)) args s R.cells R.slots (fr E)) (F0 m 71 ls [.int y0]) := by
  intro y0 σ H locs cells slots ls I hl hf
  obtain ⟨⟨hx, hb, hml, hown, hts⟩, -⟩ := id X
  unfold fX4_reads_71 at hf
  refine lv_istore_n (lv' := [(2, .int y0), (0, .ref h)]) hx hb dX4_reads_71 rfl hl (by decide) rfl (fun ls hl => ?_)
  refine lv_iload_n hx hb dX4_reads_72 rfl (lv_at hl 0 rfl) ?_
  refine lv_if_eq (tgt := 80) hx hb dX4_reads_73 (by decide) (fun c_73 => ?_) (fun c_73 => ?_)
  · have hf := ip c_73 hf
    refine lv_iconst (v := 0) hx hb dX4_reads_80 (by decide) ?_
    exact wX4_reads_81 hR X N r20 hr20 _ _ _ _ _ _ _ _ I (lv_sub hl [1, 0] rfl) hf
  · have hf := im c_73 hf
    refine lv_iconst (v := 1) hx hb dX4_reads_76 (by decide) ?_
    refine lv_goto (tgt := 81) hx hb dX4_reads_77 (by decide) ?_
    exact wX4_reads_81 hR X N r20 hr20 _ _ _ _ _ _ _ _ I (lv_sub hl [1, 0] rfl) hf
theorem wX4_reads_20 {E : EV} {l : Launch} {p : Program} {e : Env} {s : State} {m : MethodId} {args : Array Value} {below : List Frame} {meth : Method} {c : Code} {R : Room} {h : Nat} {S : St} {res : TS} (hR : 6 ≤ R.frames ∧ 126 ≤ R.locals) (X : MX E p s m args meth c cX4_reads 3 none RX4 "reads") (N : Nat) : ∀ (n : Nat) (x1 : Int32) (σ : TS) (H : Heap) (locs : List Loc) (cells slots : Nat) (ls : Array Slot), WI E R s (twS h σ S) H locs cells slots → lv_has ls 3 [(0, .ref h), (1, .int x1)] → fX4_reads_20 N n x1 σ = some res → W p l e R s m args below meth c H locs cells slots (MQ below (Qd E R.cells R.slots none (twS h res S)) args s R.cells R.slots (fr E)) (F0 m 20 ls []) := by
  intro n
  induction n with
  | zero => intro x1 σ H locs cells slots ls I hl hf; exact nomatch (show none = some res from hf)
  | succ n ih =>
    intro x1 σ H locs cells slots ls I hl hf
    obtain ⟨⟨hx, hb, hml, hown, hts⟩, -⟩ := id X
    rw [fX4_reads_20.eq_2] at hf
    refine lv_iload_n hx hb dX4_reads_20 rfl (lv_at hl 1 rfl) ?_
    refine lv_if_eq (tgt := 124) hx hb dX4_reads_21 (by decide) (fun c_21 => ?_) (fun c_21 => ?_)
    · have hf := ip c_21 hf
      refine lv_aload_n hx hb dX4_reads_124 rfl (lv_at hl 0 rfl) ?_
      obtain ⟨v_13, ev_13, hf⟩ := ob hf
      refine tw_V (some (.int v_13)) (rs := [.int v_13]) (rest := []) (As := []) X I (mX4_isGood X.2.2.2.2.1 ev_13) lvX4_isGood hdX4_isGood ⟨Nat.le_trans (Nat.le_of_ble_eq_true rfl) hR.1, Nat.le_trans (Nat.le_of_ble_eq_true rfl) hR.2⟩ rfl hl.1 rfl (Nat.le_of_ble_eq_true rfl) rfl dX4_reads_125 (fun H locs cells slots I => ?_)
      refine lv_if_eq (tgt := 151) hx hb dX4_reads_128 (by decide) (fun c_128 => ?_) (fun c_128 => ?_)
      · have hf := ip c_128 hf
        exact wX4_reads_151 hR X N _ _ _ _ _ _ I (lv_sub hl [0] rfl) hf
      · have hf := im c_128 hf
        refine lv_aload_n hx hb dX4_reads_131 rfl (lv_at hl 0 rfl) ?_
        obtain ⟨v_15, ev_15, hf⟩ := ob hf
        refine tw_V (some (.int v_15)) (rs := [.int v_15]) (rest := []) (As := []) X I (mX4_isInside X.2.2.2.2.1 ev_15) lvX4_isInside hdX4_isInside ⟨Nat.le_trans (Nat.le_of_ble_eq_true rfl) hR.1, Nat.le_trans (Nat.le_of_ble_eq_true rfl) hR.2⟩ rfl hl.1 rfl (Nat.le_of_ble_eq_true rfl) rfl dX4_reads_132 (fun H locs cells slots I => ?_)
        refine lv_if_ne (tgt := 145) hx hb dX4_reads_135 (by decide) (fun c_135 => ?_) (fun c_135 => ?_)
        · have hf := im c_135 hf
          exact wX4_reads_145 hR X N _ _ _ _ _ _ I (lv_sub hl [0] rfl) hf
        · have hf := ip c_135 hf
          refine lv_aload_n hx hb dX4_reads_138 rfl (lv_at hl 0 rfl) ?_
          refine tw_get X I 27 (v := .int (σ.1 0 27)) (by decide) q2714 rfl dX4_reads_139 ?_
          refine lv_if_eq (tgt := 151) hx hb dX4_reads_142 (by decide) (fun c_142 => ?_) (fun c_142 => ?_)
          · have hf := ip c_142 hf
            exact wX4_reads_151 hR X N _ _ _ _ _ _ I (lv_sub hl [0] rfl) hf
          · have hf := im c_142 hf
            exact wX4_reads_145 hR X N _ _ _ _ _ _ I (lv_sub hl [0] rfl) hf
    · have hf := im c_21 hf
      refine lv_aload_n hx hb dX4_reads_24 rfl (lv_at hl 0 rfl) ?_
      obtain ⟨σ_18, eσ_18, hf⟩ := ob hf
      refine tw_V none (rs := []) (rest := []) (As := []) X I (mX4_comparisonRead X.2.2.2.2.1 eσ_18) lvX4_comparisonRead hdX4_comparisonRead ⟨Nat.le_trans (Nat.le_of_ble_eq_true rfl) hR.1, Nat.le_trans (Nat.le_of_ble_eq_true rfl) hR.2⟩ rfl hl.1 rfl (Nat.le_of_ble_eq_true rfl) rfl dX4_reads_25 (fun H locs cells slots I => ?_)
      refine lv_aload_n hx hb dX4_reads_28 rfl (lv_at hl 0 rfl) ?_
      obtain ⟨v_19, ev_19, hf⟩ := ob hf
      refine tw_V (some (.int v_19)) (rs := [.int v_19]) (rest := []) (As := []) X I (mX4_isGood X.2.2.2.2.1 ev_19) lvX4_isGood hdX4_isGood ⟨Nat.le_trans (Nat.le_of_ble_eq_true rfl) hR.1, Nat.le_trans (Nat.le_of_ble_eq_true rfl) hR.2⟩ rfl hl.1 rfl (Nat.le_of_ble_eq_true rfl) rfl dX4_reads_29 (fun H locs cells slots I => ?_)
      refine lv_if_ne (tgt := 36) hx hb dX4_reads_32 (by decide) (fun c_32 => ?_) (fun c_32 => ?_)
      · have hf := im c_32 hf
        refine lv_aload_n hx hb dX4_reads_36 rfl (lv_at hl 0 rfl) ?_
        obtain ⟨σ_22, eσ_22, hf⟩ := ob hf
        refine tw_V none (rs := []) (rest := []) (As := []) X I (mX4_closes X.2.2.2.2.1 eσ_22) lvX4_closes hdX4_closes ⟨Nat.le_trans (Nat.le_of_ble_eq_true rfl) hR.1, Nat.le_trans (Nat.le_of_ble_eq_true rfl) hR.2⟩ rfl hl.1 rfl (Nat.le_of_ble_eq_true rfl) rfl dX4_reads_37 (fun H locs cells slots I => ?_)
        refine lv_aload_n hx hb dX4_reads_40 rfl (lv_at hl 0 rfl) ?_
        refine lv_ldc2 (v := 1111) hx hb hown (hts _ q3318) dX4_reads_41 ?_
        obtain ⟨v_23, ev_23, hf⟩ := ob hf
        refine tw_V (some (.int v_23)) (rs := [.int v_23]) (rest := []) (As := [.long (1111 : Int64)]) X I (mX4_isWord X.2.2.2.2.1 ev_23) lvX4_isWord hdX4_isWord ⟨Nat.le_trans (Nat.le_of_ble_eq_true rfl) hR.1, Nat.le_trans (Nat.le_of_ble_eq_true rfl) hR.2⟩ rfl hl.1 rfl (Nat.le_of_ble_eq_true rfl) rfl dX4_reads_44 (fun H locs cells slots I => ?_)
        refine lv_if_eq (tgt := 55) hx hb dX4_reads_47 (by decide) (fun c_47 => ?_) (fun c_47 => ?_)
        · have hf := ip c_47 hf
          refine lv_aload_n hx hb dX4_reads_55 rfl (lv_at hl 0 rfl) ?_
          refine lv_ldc2 (v := 423) hx hb hown (hts _ q3319) dX4_reads_56 ?_
          obtain ⟨v_25, ev_25, hf⟩ := ob hf
          refine tw_V (some (.int v_25)) (rs := [.int v_25]) (rest := []) (As := [.long (423 : Int64)]) X I (mX4_isWord X.2.2.2.2.1 ev_25) lvX4_isWord hdX4_isWord ⟨Nat.le_trans (Nat.le_of_ble_eq_true rfl) hR.1, Nat.le_trans (Nat.le_of_ble_eq_true rfl) hR.2⟩ rfl hl.1 rfl (Nat.le_of_ble_eq_true rfl) rfl dX4_reads_59 (fun H locs cells slots I => ?_)
          refine lv_if_eq (tgt := 70) hx hb dX4_reads_62 (by decide) (fun c_62 => ?_) (fun c_62 => ?_)
          · have hf := ip c_62 hf
            refine lv_iconst (v := 0) hx hb dX4_reads_70 (by decide) ?_
            exact wX4_reads_71 hR X N (fX4_reads_20 N n) ih _ _ _ _ _ _ _ I (lv_sub hl [0] rfl) hf
          · have hf := im c_62 hf
            refine lv_bipush (v := 25) hx hb dX4_reads_65 (by decide) ?_
            refine lv_goto (tgt := 71) hx hb dX4_reads_67 (by decide) ?_
            exact wX4_reads_71 hR X N (fX4_reads_20 N n) ih _ _ _ _ _ _ _ I (lv_sub hl [0] rfl) hf
        · have hf := im c_47 hf
          refine lv_bipush (v := 24) hx hb dX4_reads_50 (by decide) ?_
          refine lv_goto (tgt := 71) hx hb dX4_reads_52 (by decide) ?_
          exact wX4_reads_71 hR X N (fX4_reads_20 N n) ih _ _ _ _ _ _ _ I (lv_sub hl [0] rfl) hf
      · have hf := ip c_32 hf
        cases os hf
        exact r_vret X I dX4_reads_35
theorem wX4_reads_0 {E : EV} {l : Launch} {p : Program} {e : Env} {s : State} {m : MethodId} {args : Array Value} {below : List Frame} {meth : Method} {c : Code} {R : Room} {h : Nat} {S : St} {res : TS} (hR : 6 ≤ R.frames ∧ 126 ≤ R.locals) (X : MX E p s m args meth c cX4_reads 3 none RX4 "reads") (N : Nat) : ∀ (σ : TS) (H : Heap) (locs : List Loc) (cells slots : Nat) (ls : Array Slot), WI E R s (twS h σ S) H locs cells slots → lv_has ls 3 [(0, .ref h)] → fX4_reads N σ = some res → W p l e R s m args below meth c H locs cells slots (MQ below (Qd E R.cells R.slots none (twS h res S)) args s R.cells R.slots (fr E)) (F0 m 0 ls []) := by
  intro σ H locs cells slots ls I hl hf
  obtain ⟨⟨hx, hb, hml, hown, hts⟩, -⟩ := id X
  unfold fX4_reads at hf
  refine lv_aload_n hx hb dX4_reads_0 rfl (lv_at hl 0 rfl) ?_
  refine lv_iconst (v := 0) hx hb dX4_reads_1 (by decide) ?_
  obtain ⟨σ_27, eσ_27, hf⟩ := ol hf
  refine tw_put X I 51 (ty := .int) (by decide) (by decide) rfl q2738 rfl rfl rfl rfl eσ_27 dX4_reads_2 (fun H locs I => ?_)
  refine lv_aload_n hx hb dX4_reads_5 rfl (lv_at hl 0 rfl) ?_
  refine lv_iconst (v := 0) hx hb dX4_reads_6 (by decide) ?_
  obtain ⟨σ_28, eσ_28, hf⟩ := ol hf
  refine tw_put X I 53 (ty := .int) (by decide) (by decide) rfl q2740 rfl rfl rfl rfl eσ_28 dX4_reads_7 (fun H locs I => ?_)
  refine lv_aload_n hx hb dX4_reads_10 rfl (lv_at hl 0 rfl) ?_
  refine lv_iconst (v := 0) hx hb dX4_reads_11 (by decide) ?_
  obtain ⟨σ_29, eσ_29, hf⟩ := ol hf
  refine tw_put X I 52 (ty := .int) (by decide) (by decide) rfl q2739 rfl rfl rfl rfl eσ_29 dX4_reads_12 (fun H locs I => ?_)
  refine lv_aload_n hx hb dX4_reads_15 rfl (lv_at hl 0 rfl) ?_
  obtain ⟨v_30, ev_30, hf⟩ := ob hf
  refine tw_V (some (.int v_30)) (rs := [.int v_30]) (rest := []) (As := []) X I (mX4_isGood X.2.2.2.2.1 ev_30) lvX4_isGood hdX4_isGood ⟨Nat.le_trans (Nat.le_of_ble_eq_true rfl) hR.1, Nat.le_trans (Nat.le_of_ble_eq_true rfl) hR.2⟩ rfl hl.1 rfl (Nat.le_of_ble_eq_true rfl) rfl dX4_reads_16 (fun H locs cells slots I => ?_)
  refine lv_istore_n (lv' := [(1, .int v_30), (0, .ref h)]) hx hb dX4_reads_19 rfl hl (by decide) rfl (fun ls hl => ?_)
  exact wX4_reads_20 hR X N N _ _ _ _ _ _ _ I (lv_sub hl [1, 0] rfl) hf
theorem mX4_reads {E : EV} {l : Launch} {h : Nat} {S : St} {N : Nat} {σ : TS} {res : TS} (hE : EK E) (hf : fX4_reads N σ = some res) : CM E l yX4_reads (ws_ yX4_reads cX4_reads 3 none) 6 126 [.ref h] (twS h σ S) none (twS h res S) := by
  refine CM.of hE (by decide) rfl rfl (Nat.le_of_ble_eq_true rfl) ?_
  intro p e s m below meth c X I ls hl
  exact wX4_reads_0 ⟨Nat.le_refl _, Nat.le_refl _⟩ X N _ _ _ _ _ _ I hl hf
/-! joined(III)Z -/
theorem lvX4_joined : GoodIn lw_all (va_wsS RX4 495 yX4_joined (ws_ yX4_joined cX4_joined 3 (some .boolean))) := lw_S q3327 q3328 q120 q3329
theorem hdX4_joined : yX4_joined.cls ≠ "java/lang/invoke/MethodHandle" ∧ yX4_joined.cls ≠ "java/lang/invoke/VarHandle" ∧ (parseMethodDescriptor yX4_joined.desc).map (fun d => d.parameters.length) = some 3 := by decide +kernel
theorem wX4_joined_0 {E : EV} {l : Launch} {p : Program} {e : Env} {s : State} {m : MethodId} {args : Array Value} {below : List Frame} {meth : Method} {c : Code} {R : Room} {σ : St} {res : Int32} (hR : 0 ≤ R.frames ∧ 0 ≤ R.locals) (X : MX E p s m args meth c cX4_joined 3 (some .boolean) RX4 "joined") : ∀ (x0 : Int32) (x1 : Int32) (x2 : Int32) (H : Heap) (locs : List Loc) (cells slots : Nat) (ls : Array Slot), WI E R s σ H locs cells slots → lv_has ls 3 [(0, .int x0), (1, .int x1), (2, .int x2)] → fX4_joined x0 x1 x2 = some res → W p l e R s m args below meth c H locs cells slots (MQ below (Qd E R.cells R.slots (some (.int res)) σ) args s R.cells R.slots (fr E)) (F0 m 0 ls []) := by
  intro x0 x1 x2 H locs cells slots ls I hl hf
  obtain ⟨⟨hx, hb, hml, hown, hts⟩, -⟩ := id X
  unfold fX4_joined at hf
  refine lv_iload_n hx hb dX4_joined_0 rfl (lv_at hl 0 rfl) ?_
  by_cases c_1_0 : x0 = 20
  · have hf := ip c_1_0 hf
    refine lv_tableIn (off := 35) (tgt := 36) hx hb dX4_joined_1 (by rw [c_1_0]; decide) (by rw [c_1_0]; decide) (by rw [c_1_0]; rfl) (by decide) ?_
    refine lv_iload_n hx hb dX4_joined_36 rfl (lv_at hl 1 rfl) ?_
    refine lv_iload_n hx hb dX4_joined_37 rfl (lv_at hl 2 rfl) ?_
    refine lv_icmp_ge (tgt := 45) hx hb dX4_joined_38 (by decide) (fun c_38 => ?_) (fun c_38 => ?_)
    · have hf := ip c_38 hf
      refine lv_iconst (v := 0) hx hb dX4_joined_45 (by decide) ?_
      cases os hf
      exact r_zret X I (Or.inl rfl) dX4_joined_46
    · have hf := im c_38 hf
      refine lv_iconst (v := 1) hx hb dX4_joined_41 (by decide) ?_
      refine lv_goto (tgt := 46) hx hb dX4_joined_42 (by decide) ?_
      cases os hf
      exact r_zret X I (Or.inr rfl) dX4_joined_46
  · have hf := im c_1_0 hf
    by_cases c_1_1 : x0 = 21
    · have hf := ip c_1_1 hf
      refine lv_tableIn (off := 46) (tgt := 47) hx hb dX4_joined_1 (by rw [c_1_1]; decide) (by rw [c_1_1]; decide) (by rw [c_1_1]; rfl) (by decide) ?_
      refine lv_iload_n hx hb dX4_joined_47 rfl (lv_at hl 1 rfl) ?_
      refine lv_iload_n hx hb dX4_joined_48 rfl (lv_at hl 2 rfl) ?_
      refine lv_icmp_ne (tgt := 56) hx hb dX4_joined_49 (by decide) (fun c_49 => ?_) (fun c_49 => ?_)
      · have hf := im c_49 hf
        refine lv_iconst (v := 0) hx hb dX4_joined_56 (by decide) ?_
        cases os hf
        exact r_zret X I (Or.inl rfl) dX4_joined_57
      · have hf := ip c_49 hf
        refine lv_iconst (v := 1) hx hb dX4_joined_52 (by decide) ?_
        refine lv_goto (tgt := 57) hx hb dX4_joined_53 (by decide) ?_
        cases os hf
        exact r_zret X I (Or.inr rfl) dX4_joined_57
    · have hf := im c_1_1 hf
      by_cases c_1_2 : x0 = 22
      · have hf := ip c_1_2 hf
        refine lv_tableIn (off := 57) (tgt := 58) hx hb dX4_joined_1 (by rw [c_1_2]; decide) (by rw [c_1_2]; decide) (by rw [c_1_2]; rfl) (by decide) ?_
        refine lv_iload_n hx hb dX4_joined_58 rfl (lv_at hl 1 rfl) ?_
        refine lv_iload_n hx hb dX4_joined_59 rfl (lv_at hl 2 rfl) ?_
        refine lv_icmp_le (tgt := 67) hx hb dX4_joined_60 (by decide) (fun c_60 => ?_) (fun c_60 => ?_)
        · have hf := ip c_60 hf
          refine lv_iconst (v := 0) hx hb dX4_joined_67 (by decide) ?_
          cases os hf
          exact r_zret X I (Or.inl rfl) dX4_joined_68
        · have hf := im c_60 hf
          refine lv_iconst (v := 1) hx hb dX4_joined_63 (by decide) ?_
          refine lv_goto (tgt := 68) hx hb dX4_joined_64 (by decide) ?_
          cases os hf
          exact r_zret X I (Or.inr rfl) dX4_joined_68
      · have hf := im c_1_2 hf
        by_cases c_1_3 : x0 = 23
        · have hf := ip c_1_3 hf
          refine lv_tableIn (off := 81) (tgt := 82) hx hb dX4_joined_1 (by rw [c_1_3]; decide) (by rw [c_1_3]; decide) (by rw [c_1_3]; rfl) (by decide) ?_
          refine lv_iload_n hx hb dX4_joined_82 rfl (lv_at hl 1 rfl) ?_
          refine lv_iload_n hx hb dX4_joined_83 rfl (lv_at hl 2 rfl) ?_
          refine lv_iadd hx hb dX4_joined_84 ?_
          refine lv_if_le (tgt := 92) hx hb dX4_joined_85 (by decide) (fun c_85 => ?_) (fun c_85 => ?_)
          · have hf := ip c_85 hf
            refine lv_iconst (v := 0) hx hb dX4_joined_92 (by decide) ?_
            cases os hf
            exact r_zret X I (Or.inl rfl) dX4_joined_93
          · have hf := im c_85 hf
            refine lv_iconst (v := 1) hx hb dX4_joined_88 (by decide) ?_
            refine lv_goto (tgt := 93) hx hb dX4_joined_89 (by decide) ?_
            cases os hf
            exact r_zret X I (Or.inr rfl) dX4_joined_93
        · have hf := im c_1_3 hf
          by_cases c_1_4 : x0 = 24
          · have hf := ip c_1_4 hf
            refine lv_tableIn (off := 68) (tgt := 69) hx hb dX4_joined_1 (by rw [c_1_4]; decide) (by rw [c_1_4]; decide) (by rw [c_1_4]; rfl) (by decide) ?_
            refine lv_iload_n hx hb dX4_joined_69 rfl (lv_at hl 1 rfl) ?_
            refine lv_iload_n hx hb dX4_joined_70 rfl (lv_at hl 2 rfl) ?_
            refine lv_iadd hx hb dX4_joined_71 ?_
            refine lv_iconst (v := 2) hx hb dX4_joined_72 (by decide) ?_
            refine lv_icmp_ne (tgt := 80) hx hb dX4_joined_73 (by decide) (fun c_73 => ?_) (fun c_73 => ?_)
            · have hf := im c_73 hf
              refine lv_iconst (v := 0) hx hb dX4_joined_80 (by decide) ?_
              cases os hf
              exact r_zret X I (Or.inl rfl) dX4_joined_81
            · have hf := ip c_73 hf
              refine lv_iconst (v := 1) hx hb dX4_joined_76 (by decide) ?_
              refine lv_goto (tgt := 81) hx hb dX4_joined_77 (by decide) ?_
              cases os hf
              exact r_zret X I (Or.inr rfl) dX4_joined_81
          · have hf := im c_1_4 hf
            refine lv_tableOut (tgt := 82) hx hb dX4_joined_1 (by exact sw_out 20 24 (fun k h1 h2 => by rcases (show k = 20 ∨ k = 21 ∨ k = 22 ∨ k = 23 ∨ k = 24 by omega) with rfl | rfl | rfl | rfl | rfl; exact c_1_0; exact c_1_1; exact c_1_2; exact c_1_3; exact c_1_4)) (by decide) ?_
            refine lv_iload_n hx hb dX4_joined_82 rfl (lv_at hl 1 rfl) ?_
            refine lv_iload_n hx hb dX4_joined_83 rfl (lv_at hl 2 rfl) ?_
            refine lv_iadd hx hb dX4_joined_84 ?_
            refine lv_if_le (tgt := 92) hx hb dX4_joined_85 (by decide) (fun c_85 => ?_) (fun c_85 => ?_)
            · have hf := ip c_85 hf
              refine lv_iconst (v := 0) hx hb dX4_joined_92 (by decide) ?_
              cases os hf
              exact r_zret X I (Or.inl rfl) dX4_joined_93
            · have hf := im c_85 hf
              refine lv_iconst (v := 1) hx hb dX4_joined_88 (by decide) ?_
              refine lv_goto (tgt := 93) hx hb dX4_joined_89 (by decide) ?_
              cases os hf
              exact r_zret X I (Or.inr rfl) dX4_joined_93
theorem mX4_joined {E : EV} {l : Launch} {σ : St} {x0 : Int32} {x1 : Int32} {x2 : Int32} {res : Int32} (hE : EK E) (hf : fX4_joined x0 x1 x2 = some res) : CM E l yX4_joined (ws_ yX4_joined cX4_joined 3 (some .boolean)) 0 0 [.int x0, .int x1, .int x2] σ (some (.int res)) σ := by
  refine CM.of hE (by decide) rfl rfl (Nat.le_of_ble_eq_true rfl) ?_
  intro p e s m below meth c X I ls hl
  exact wX4_joined_0 ⟨Nat.le_refl _, Nat.le_refl _⟩ X _ _ _ _ _ _ _ _ I hl hf
/-! propertyOf(II)I -/
theorem lvX4_propertyOf : GoodIn lw_all (wsV RX4 499 RX4 yX4_propertyOf (ws_ yX4_propertyOf cX4_propertyOf 3 (some .int))) := lw_V q3330 q3332 qs111 q120 q3333
theorem hdX4_propertyOf : yX4_propertyOf.cls = RX4 ∧ yX4_propertyOf.cls ≠ "java/lang/invoke/MethodHandle" ∧ yX4_propertyOf.cls ≠ "java/lang/invoke/VarHandle" ∧ (parseMethodDescriptor yX4_propertyOf.desc).map (fun d => d.parameters.length) = some 2 := by decide +kernel
theorem wX4_propertyOf_0 {E : EV} {l : Launch} {p : Program} {e : Env} {s : State} {m : MethodId} {args : Array Value} {below : List Frame} {meth : Method} {c : Code} {R : Room} {h : Nat} {S : St} {σ : TS} {res : Int32} (hR : 1 ≤ R.frames ∧ 22 ≤ R.locals) (X : MX E p s m args meth c cX4_propertyOf 3 (some .int) RX4 "propertyOf") : ∀ (x1 : Int32) (x2 : Int32) (H : Heap) (locs : List Loc) (cells slots : Nat) (ls : Array Slot), WI E R s (twS h σ S) H locs cells slots → lv_has ls 3 [(0, .ref h), (1, .int x1), (2, .int x2)] → fX4_propertyOf σ x1 x2 = some res → W p l e R s m args below meth c H locs cells slots (MQ below (Qd E R.cells R.slots (some (.int res)) (twS h σ S)) args s R.cells R.slots (fr E)) (F0 m 0 ls []) := by
  intro x1 x2 H locs cells slots ls I hl hf
  obtain ⟨⟨hx, hb, hml, hown, hts⟩, -⟩ := id X
  unfold fX4_propertyOf at hf
  refine lv_iload_n hx hb dX4_propertyOf_0 rfl (lv_at hl 1 rfl) ?_
  by_cases c_1_0 : x1 = 0
  · have hf := ip c_1_0 hf
    refine lv_tableIn (off := 47) (tgt := 48) hx hb dX4_propertyOf_1 (by rw [c_1_0]; decide) (by rw [c_1_0]; decide) (by rw [c_1_0]; rfl) (by decide) ?_
    refine lv_iload_n hx hb dX4_propertyOf_48 rfl (lv_at hl 2 rfl) ?_
    cases os hf
    exact r_iret X I dX4_propertyOf_49
  · have hf := im c_1_0 hf
    by_cases c_1_1 : x1 = 1
    · have hf := ip c_1_1 hf
      refine lv_tableIn (off := 49) (tgt := 50) hx hb dX4_propertyOf_1 (by rw [c_1_1]; decide) (by rw [c_1_1]; decide) (by rw [c_1_1]; rfl) (by decide) ?_
      refine lv_aload_n hx hb dX4_propertyOf_50 rfl (lv_at hl 0 rfl) ?_
      refine lv_iload_n hx hb dX4_propertyOf_51 rfl (lv_at hl 2 rfl) ?_
      refine lv_iconst (v := 0) hx hb dX4_propertyOf_52 (by decide) ?_
      obtain ⟨v_1, ev_1, hf⟩ := ob hf
      refine tw_V (some (.int v_1)) (rs := [.int v_1]) (rest := []) (As := [.int x2, .int (0 : Int32)]) X I (mX4_of X.2.2.2.2.1 ev_1) lvX4_of hdX4_of ⟨Nat.le_trans (Nat.le_of_ble_eq_true rfl) hR.1, Nat.le_trans (Nat.le_of_ble_eq_true rfl) hR.2⟩ rfl hl.1 rfl (Nat.le_of_ble_eq_true rfl) rfl dX4_propertyOf_53 (fun H locs cells slots I => ?_)
      cases os hf
      exact r_iret X I dX4_propertyOf_56
    · have hf := im c_1_1 hf
      by_cases c_1_2 : x1 = 2
      · have hf := ip c_1_2 hf
        refine lv_tableIn (off := 56) (tgt := 57) hx hb dX4_propertyOf_1 (by rw [c_1_2]; decide) (by rw [c_1_2]; decide) (by rw [c_1_2]; rfl) (by decide) ?_
        refine lv_aload_n hx hb dX4_propertyOf_57 rfl (lv_at hl 0 rfl) ?_
        refine lv_iload_n hx hb dX4_propertyOf_58 rfl (lv_at hl 2 rfl) ?_
        refine lv_iconst (v := 1) hx hb dX4_propertyOf_59 (by decide) ?_
        obtain ⟨v_3, ev_3, hf⟩ := ob hf
        refine tw_V (some (.int v_3)) (rs := [.int v_3]) (rest := []) (As := [.int x2, .int (1 : Int32)]) X I (mX4_of X.2.2.2.2.1 ev_3) lvX4_of hdX4_of ⟨Nat.le_trans (Nat.le_of_ble_eq_true rfl) hR.1, Nat.le_trans (Nat.le_of_ble_eq_true rfl) hR.2⟩ rfl hl.1 rfl (Nat.le_of_ble_eq_true rfl) rfl dX4_propertyOf_60 (fun H locs cells slots I => ?_)
        cases os hf
        exact r_iret X I dX4_propertyOf_63
      · have hf := im c_1_2 hf
        by_cases c_1_3 : x1 = 3
        · have hf := ip c_1_3 hf
          refine lv_tableIn (off := 63) (tgt := 64) hx hb dX4_propertyOf_1 (by rw [c_1_3]; decide) (by rw [c_1_3]; decide) (by rw [c_1_3]; rfl) (by decide) ?_
          refine lv_aload_n hx hb dX4_propertyOf_64 rfl (lv_at hl 0 rfl) ?_
          refine lv_iload_n hx hb dX4_propertyOf_65 rfl (lv_at hl 2 rfl) ?_
          refine lv_iconst (v := 2) hx hb dX4_propertyOf_66 (by decide) ?_
          obtain ⟨v_5, ev_5, hf⟩ := ob hf
          refine tw_V (some (.int v_5)) (rs := [.int v_5]) (rest := []) (As := [.int x2, .int (2 : Int32)]) X I (mX4_of X.2.2.2.2.1 ev_5) lvX4_of hdX4_of ⟨Nat.le_trans (Nat.le_of_ble_eq_true rfl) hR.1, Nat.le_trans (Nat.le_of_ble_eq_true rfl) hR.2⟩ rfl hl.1 rfl (Nat.le_of_ble_eq_true rfl) rfl dX4_propertyOf_67 (fun H locs cells slots I => ?_)
          cases os hf
          exact r_iret X I dX4_propertyOf_70
        · have hf := im c_1_3 hf
          by_cases c_1_4 : x1 = 4
          · have hf := ip c_1_4 hf
            refine lv_tableIn (off := 70) (tgt := 71) hx hb dX4_propertyOf_1 (by rw [c_1_4]; decide) (by rw [c_1_4]; decide) (by rw [c_1_4]; rfl) (by decide) ?_
            refine lv_aload_n hx hb dX4_propertyOf_71 rfl (lv_at hl 0 rfl) ?_
            refine lv_iload_n hx hb dX4_propertyOf_72 rfl (lv_at hl 2 rfl) ?_
            refine lv_iconst (v := 3) hx hb dX4_propertyOf_73 (by decide) ?_
            obtain ⟨v_7, ev_7, hf⟩ := ob hf
            refine tw_V (some (.int v_7)) (rs := [.int v_7]) (rest := []) (As := [.int x2, .int (3 : Int32)]) X I (mX4_of X.2.2.2.2.1 ev_7) lvX4_of hdX4_of ⟨Nat.le_trans (Nat.le_of_ble_eq_true rfl) hR.1, Nat.le_trans (Nat.le_of_ble_eq_true rfl) hR.2⟩ rfl hl.1 rfl (Nat.le_of_ble_eq_true rfl) rfl dX4_propertyOf_74 (fun H locs cells slots I => ?_)
            cases os hf
            exact r_iret X I dX4_propertyOf_77
          · have hf := im c_1_4 hf
            by_cases c_1_5 : x1 = 5
            · have hf := ip c_1_5 hf
              refine lv_tableIn (off := 77) (tgt := 78) hx hb dX4_propertyOf_1 (by rw [c_1_5]; decide) (by rw [c_1_5]; decide) (by rw [c_1_5]; rfl) (by decide) ?_
              refine lv_aload_n hx hb dX4_propertyOf_78 rfl (lv_at hl 0 rfl) ?_
              refine lv_iload_n hx hb dX4_propertyOf_79 rfl (lv_at hl 2 rfl) ?_
              refine lv_iconst (v := 4) hx hb dX4_propertyOf_80 (by decide) ?_
              obtain ⟨v_9, ev_9, hf⟩ := ob hf
              refine tw_V (some (.int v_9)) (rs := [.int v_9]) (rest := []) (As := [.int x2, .int (4 : Int32)]) X I (mX4_of X.2.2.2.2.1 ev_9) lvX4_of hdX4_of ⟨Nat.le_trans (Nat.le_of_ble_eq_true rfl) hR.1, Nat.le_trans (Nat.le_of_ble_eq_true rfl) hR.2⟩ rfl hl.1 rfl (Nat.le_of_ble_eq_true rfl) rfl dX4_propertyOf_81 (fun H locs cells slots I => ?_)
              cases os hf
              exact r_iret X I dX4_propertyOf_84
            · have hf := im c_1_5 hf
              by_cases c_1_6 : x1 = 6
              · have hf := ip c_1_6 hf
                refine lv_tableIn (off := 84) (tgt := 85) hx hb dX4_propertyOf_1 (by rw [c_1_6]; decide) (by rw [c_1_6]; decide) (by rw [c_1_6]; rfl) (by decide) ?_
                refine lv_aload_n hx hb dX4_propertyOf_85 rfl (lv_at hl 0 rfl) ?_
                refine lv_iload_n hx hb dX4_propertyOf_86 rfl (lv_at hl 2 rfl) ?_
                refine lv_bipush (v := 6) hx hb dX4_propertyOf_87 (by decide) ?_
                obtain ⟨v_11, ev_11, hf⟩ := ob hf
                refine tw_V (some (.int v_11)) (rs := [.int v_11]) (rest := []) (As := [.int x2, .int (6 : Int32)]) X I (mX4_of X.2.2.2.2.1 ev_11) lvX4_of hdX4_of ⟨Nat.le_trans (Nat.le_of_ble_eq_true rfl) hR.1, Nat.le_trans (Nat.le_of_ble_eq_true rfl) hR.2⟩ rfl hl.1 rfl (Nat.le_of_ble_eq_true rfl) rfl dX4_propertyOf_89 (fun H locs cells slots I => ?_)
                cases os hf
                exact r_iret X I dX4_propertyOf_92
              · have hf := im c_1_6 hf
                by_cases c_1_7 : x1 = 7
                · have hf := ip c_1_7 hf
                  refine lv_tableIn (off := 92) (tgt := 93) hx hb dX4_propertyOf_1 (by rw [c_1_7]; decide) (by rw [c_1_7]; decide) (by rw [c_1_7]; rfl) (by decide) ?_
                  refine lv_aload_n hx hb dX4_propertyOf_93 rfl (lv_at hl 0 rfl) ?_
                  refine lv_iload_n hx hb dX4_propertyOf_94 rfl (lv_at hl 2 rfl) ?_
                  refine lv_bipush (v := 10) hx hb dX4_propertyOf_95 (by decide) ?_
                  obtain ⟨v_13, ev_13, hf⟩ := ob hf
                  refine tw_V (some (.int v_13)) (rs := [.int v_13]) (rest := []) (As := [.int x2, .int (10 : Int32)]) X I (mX4_of X.2.2.2.2.1 ev_13) lvX4_of hdX4_of ⟨Nat.le_trans (Nat.le_of_ble_eq_true rfl) hR.1, Nat.le_trans (Nat.le_of_ble_eq_true rfl) hR.2⟩ rfl hl.1 rfl (Nat.le_of_ble_eq_true rfl) rfl dX4_propertyOf_97 (fun H locs cells slots I => ?_)
                  cases os hf
                  exact r_iret X I dX4_propertyOf_100
                · have hf := im c_1_7 hf
                  refine lv_tableOut (tgt := 101) hx hb dX4_propertyOf_1 (by exact sw_out 0 7 (fun k h1 h2 => by rcases (show k = 0 ∨ k = 1 ∨ k = 2 ∨ k = 3 ∨ k = 4 ∨ k = 5 ∨ k = 6 ∨ k = 7 by omega) with rfl | rfl | rfl | rfl | rfl | rfl | rfl | rfl; exact c_1_0; exact c_1_1; exact c_1_2; exact c_1_3; exact c_1_4; exact c_1_5; exact c_1_6; exact c_1_7)) (by decide) ?_
                  refine lv_aload_n hx hb dX4_propertyOf_101 rfl (lv_at hl 0 rfl) ?_
                  refine lv_iload_n hx hb dX4_propertyOf_102 rfl (lv_at hl 2 rfl) ?_
                  refine lv_bipush (v := 7) hx hb dX4_propertyOf_103 (by decide) ?_
                  obtain ⟨v_15, ev_15, hf⟩ := ob hf
                  refine tw_V (some (.int v_15)) (rs := [.int v_15]) (rest := []) (As := [.int x2, .int (7 : Int32)]) X I (mX4_of X.2.2.2.2.1 ev_15) lvX4_of hdX4_of ⟨Nat.le_trans (Nat.le_of_ble_eq_true rfl) hR.1, Nat.le_trans (Nat.le_of_ble_eq_true rfl) hR.2⟩ rfl hl.1 rfl (Nat.le_of_ble_eq_true rfl) rfl dX4_propertyOf_105 (fun H locs cells slots I => ?_)
                  refine lv_iconst (v := 1) hx hb dX4_propertyOf_108 (by decide) ?_
                  refine lv_iadd hx hb dX4_propertyOf_109 ?_
                  cases os hf
                  exact r_iret X I dX4_propertyOf_110
theorem mX4_propertyOf {E : EV} {l : Launch} {h : Nat} {S : St} {σ : TS} {x1 : Int32} {x2 : Int32} {res : Int32} (hE : EK E) (hf : fX4_propertyOf σ x1 x2 = some res) : CM E l yX4_propertyOf (ws_ yX4_propertyOf cX4_propertyOf 3 (some .int)) 1 22 [.ref h, .int x1, .int x2] (twS h σ S) (some (.int res)) (twS h σ S) := by
  refine CM.of hE (by decide) rfl rfl (Nat.le_of_ble_eq_true rfl) ?_
  intro p e s m below meth c X I ls hl
  exact wX4_propertyOf_0 ⟨Nat.le_refl _, Nat.le_refl _⟩ X _ _ _ _ _ _ _ I hl hf
/-! holds(I)Z -/
theorem lvX4_holds : GoodIn lw_all (wsV RX4 510 RX4 yX4_holds (ws_ yX4_holds cX4_holds 5 (some .boolean))) := lw_V q3321 q3323 qs110 q120 q3324
theorem hdX4_holds : yX4_holds.cls = RX4 ∧ yX4_holds.cls ≠ "java/lang/invoke/MethodHandle" ∧ yX4_holds.cls ≠ "java/lang/invoke/VarHandle" ∧ (parseMethodDescriptor yX4_holds.desc).map (fun d => d.parameters.length) = some 1 := by decide +kernel
theorem wX4_holds_135 {E : EV} {l : Launch} {p : Program} {e : Env} {s : State} {m : MethodId} {args : Array Value} {below : List Frame} {meth : Method} {c : Code} {R : Room} {h : Nat} {S : St} {res : (Int32 × TS)} (hR : 2 ≤ R.frames ∧ 44 ≤ R.locals) (X : MX E p s m args meth c cX4_holds 5 (some .boolean) RX4 "holds") (N : Nat) (r4 : Int32 → Int32 → Int32 → TS → Option (Int32 × TS)) (hr4 : ∀ (x1 : Int32) (x2 : Int32) (x3 : Int32) (σ : TS) (H : Heap) (locs : List Loc) (cells slots : Nat) (ls : Array Slot), WI E R s (twS h σ S) H locs cells slots → lv_has ls 5 [(0, .ref h), (1, .int x1), (2, .int x2), (3, .int x3)] → r4 x1 x2 x3 σ = some res → W p l e R s m args below meth c H locs cells slots (MQ below (Qd E R.cells R.slots (some (.int res.1)) (twS h res.2 S)) args s R.cells R.slots (fr E)) (F0 m 4 ls [])) : ∀ (x1 : Int32) (x2 : Int32) (x3 : Int32) (σ : TS) (H : Heap) (locs : List Loc) (cells slots : Nat) (ls : Array Slot), WI E R s (twS h σ S) H locs cells slots → lv_has ls 5 [(0, .ref h), (1, .int x1), (2, .int x2), (3, .int x3)] → fX4_holds_135 N r4 x1 x2 x3 σ = some res → W p l e R s m args below meth c H locs cells slots (MQ below (Qd E R.cells R.slots (some (.int res.1)) (twS h res.2 S)) args s R.cells R.slots (fr E)) (F0 m 135 ls []) := by
  intro x1 x2 x3 σ H locs cells slots ls I hl hf
  obtain ⟨⟨hx, hb, hml, hown, hts⟩, -⟩ := id X
  unfold fX4_holds_135 at hf
  obtain ⟨x3_1, ex3_1, hf⟩ := ol hf
  refine lv_iinc (v := x3_1) (lv' := [(3, .int x3_1), (0, .ref h), (1, .int x1), (2, .int x2)]) hx hb dX4_holds_135 hl (k := 3) rfl ex3_1 (by decide) rfl (fun ls hl => ?_)
  refine lv_goto (tgt := 4) hx hb dX4_holds_138 (by decide) ?_
  exact hr4 _ _ _ _ _ _ _ _ _ I (lv_sub hl [1, 2, 3, 0] rfl) hf
theorem wX4_holds_131 {E : EV} {l : Launch} {p : Program} {e : Env} {s : State} {m : MethodId} {args : Array Value} {below : List Frame} {meth : Method} {c : Code} {R : Room} {h : Nat} {S : St} {res : (Int32 × TS)} (hR : 2 ≤ R.frames ∧ 44 ≤ R.locals) (X : MX E p s m args meth c cX4_holds 5 (some .boolean) RX4 "holds") (N : Nat) (r4 : Int32 → Int32 → Int32 → TS → Option (Int32 × TS)) (hr4 : ∀ (x1 : Int32) (x2 : Int32) (x3 : Int32) (σ : TS) (H : Heap) (locs : List Loc) (cells slots : Nat) (ls : Array Slot), WI E R s (twS h σ S) H locs cells slots → lv_has ls 5 [(0, .ref h), (1, .int x1), (2, .int x2), (3, .int x3)] → r4 x1 x2 x3 σ = some res → W p l e R s m args below meth c H locs cells slots (MQ below (Qd E R.cells R.slots (some (.int res.1)) (twS h res.2 S)) args s R.cells R.slots (fr E)) (F0 m 4 ls [])) : ∀ (x1 : Int32) (x2 : Int32) (x3 : Int32) (y1 : Int32) (y2 : Int32) (σ : TS) (H : Heap) (locs : List Loc) (cells slots : Nat) (ls : Array Slot), WI E R s (twS h σ S) H locs cells slots → lv_has ls 5 [(0, .ref h), (1, .int x1), (2, .int x2), (3, .int x3)] → fX4_holds_131 N r4 x1 x2 x3 y1 y2 σ = some res → W p l e R s m args below meth c H locs cells slots (MQ below (Qd E R.cells R.slots (some (.int res.1)) (twS h res.2 S)) args s R.cells R.slots (fr E)) (F0 m 131 ls [.int y2, .int y1, .ref (h + 24)]) := by
  intro x1 x2 x3 y1 y2 σ H locs cells slots ls I hl hf
  obtain ⟨⟨hx, hb, hml, hown, hts⟩, -⟩ := id X
  unfold fX4_holds_131 at hf
  obtain ⟨σ_2, eσ_2, hf⟩ := ob hf
  refine tw_ast X I 24 (by decide) (by decide) (by decide) eσ_2 dX4_holds_131 (fun H locs I => ?_)
  obtain ⟨x2_3, ex2_3, hf⟩ := ol hf
  refine lv_iinc (v := x2_3) (lv' := [(2, .int x2_3), (0, .ref h), (1, .int x1), (3, .int x3)]) hx hb dX4_holds_132 hl (k := 2) rfl ex2_3 (by decide) rfl (fun ls hl => ?_)
  exact wX4_holds_135 hR X N r4 hr4 _ _ _ _ _ _ _ _ _ I (lv_sub hl [1, 2, 0, 3] rfl) hf
theorem wX4_holds_100 {E : EV} {l : Launch} {p : Program} {e : Env} {s : State} {m : MethodId} {args : Array Value} {below : List Frame} {meth : Method} {c : Code} {R : Room} {h : Nat} {S : St} {res : (Int32 × TS)} (hR : 2 ≤ R.frames ∧ 44 ≤ R.locals) (X : MX E p s m args meth c cX4_holds 5 (some .boolean) RX4 "holds") (N : Nat) (r4 : Int32 → Int32 → Int32 → TS → Option (Int32 × TS)) (hr4 : ∀ (x1 : Int32) (x2 : Int32) (x3 : Int32) (σ : TS) (H : Heap) (locs : List Loc) (cells slots : Nat) (ls : Array Slot), WI E R s (twS h σ S) H locs cells slots → lv_has ls 5 [(0, .ref h), (1, .int x1), (2, .int x2), (3, .int x3)] → r4 x1 x2 x3 σ = some res → W p l e R s m args below meth c H locs cells slots (MQ below (Qd E R.cells R.slots (some (.int res.1)) (twS h res.2 S)) args s R.cells R.slots (fr E)) (F0 m 4 ls [])) : ∀ (x1 : Int32) (x2 : Int32) (x3 : Int32) (y1 : Int32) (y2 : Int32) (σ : TS) (H : Heap) (locs : List Loc) (cells slots : Nat) (ls : Array Slot), WI E R s (twS h σ S) H locs cells slots → lv_has ls 5 [(0, .ref h), (1, .int x1), (2, .int x2), (3, .int x3)] → fX4_holds_100 N r4 x1 x2 x3 y1 y2 σ = some res → W p l e R s m args below meth c H locs cells slots (MQ below (Qd E R.cells R.slots (some (.int res.1)) (twS h res.2 S)) args s R.cells R.slots (fr E)) (F0 m 100 ls [.int y2, .int y1, .ref (h + 24)]) := by
  intro x1 x2 x3 y1 y2 σ H locs cells slots ls I hl hf
  obtain ⟨⟨hx, hb, hml, hown, hts⟩, -⟩ := id X
  unfold fX4_holds_100 at hf
  obtain ⟨σ_4, eσ_4, hf⟩ := ob hf
  refine tw_ast X I 24 (by decide) (by decide) (by decide) eσ_4 dX4_holds_100 (fun H locs I => ?_)
  refine lv_goto (tgt := 135) hx hb dX4_holds_101 (by decide) ?_
  exact wX4_holds_135 hR X N r4 hr4 _ _ _ _ _ _ _ _ _ I (lv_sub hl [0, 1, 2, 3] rfl) hf
theorem wX4_holds_4 {E : EV} {l : Launch} {p : Program} {e : Env} {s : State} {m : MethodId} {args : Array Value} {below : List Frame} {meth : Method} {c : Code} {R : Room} {h : Nat} {S : St} {res : (Int32 × TS)} (hR : 2 ≤ R.frames ∧ 44 ≤ R.locals) (X : MX E p s m args meth c cX4_holds 5 (some .boolean) RX4 "holds") (N : Nat) : ∀ (n : Nat) (x1 : Int32) (x2 : Int32) (x3 : Int32) (σ : TS) (H : Heap) (locs : List Loc) (cells slots : Nat) (ls : Array Slot), WI E R s (twS h σ S) H locs cells slots → lv_has ls 5 [(0, .ref h), (1, .int x1), (2, .int x2), (3, .int x3)] → fX4_holds_4 N n x1 x2 x3 σ = some res → W p l e R s m args below meth c H locs cells slots (MQ below (Qd E R.cells R.slots (some (.int res.1)) (twS h res.2 S)) args s R.cells R.slots (fr E)) (F0 m 4 ls []) := by
  intro n
  induction n with
  | zero => intro x1 x2 x3 σ H locs cells slots ls I hl hf; exact nomatch (show none = some res from hf)
  | succ n ih =>
    intro x1 x2 x3 σ H locs cells slots ls I hl hf
    obtain ⟨⟨hx, hb, hml, hown, hts⟩, -⟩ := id X
    rw [fX4_holds_4.eq_2] at hf
    refine lv_iload_n hx hb dX4_holds_4 rfl (lv_at hl 3 rfl) ?_
    refine lv_aload_n hx hb dX4_holds_5 rfl (lv_at hl 0 rfl) ?_
    refine tw_get X I 51 (v := .int (σ.1 0 51)) (by decide) q2738 rfl dX4_holds_6 ?_
    refine lv_icmp_ge (tgt := 141) hx hb dX4_holds_9 (by decide) (fun c_9 => ?_) (fun c_9 => ?_)
    · have hf := ip c_9 hf
      refine lv_aload_n hx hb dX4_holds_141 rfl (lv_at hl 0 rfl) ?_
      refine tw_get X I 50 (v := .ref (h + 24)) (by decide) q2737 rfl dX4_holds_142 ?_
      refine lv_iconst (v := 0) hx hb dX4_holds_145 (by decide) ?_
      obtain ⟨v_5, ev_5, hf⟩ := ob hf
      refine tw_ald X I 24 (by decide) (by decide) (by decide) ev_5 dX4_holds_146 ?_
      refine lv_iconst (v := 1) hx hb dX4_holds_147 (by decide) ?_
      refine lv_icmp_ne (tgt := 155) hx hb dX4_holds_148 (by decide) (fun c_148 => ?_) (fun c_148 => ?_)
      · have hf := im c_148 hf
        refine lv_iconst (v := 0) hx hb dX4_holds_155 (by decide) ?_
        cases os hf
        exact r_zret X I (Or.inl rfl) dX4_holds_156
      · have hf := ip c_148 hf
        refine lv_iconst (v := 1) hx hb dX4_holds_151 (by decide) ?_
        refine lv_goto (tgt := 156) hx hb dX4_holds_152 (by decide) ?_
        cases os hf
        exact r_zret X I (Or.inr rfl) dX4_holds_156
    · have hf := im c_9 hf
      refine lv_aload_n hx hb dX4_holds_12 rfl (lv_at hl 0 rfl) ?_
      refine tw_get X I 48 (v := .ref (h + 22)) (by decide) q2735 rfl dX4_holds_13 ?_
      refine lv_iload_n hx hb dX4_holds_16 rfl (lv_at hl 3 rfl) ?_
      obtain ⟨v_6, ev_6, hf⟩ := ob hf
      refine tw_ald X I 22 (by decide) (by decide) (by decide) ev_6 dX4_holds_17 ?_
      refine lv_istore (lv' := [(4, .int v_6), (0, .ref h), (1, .int x1), (2, .int x2), (3, .int x3)]) hx hb dX4_holds_18 hl (by decide) rfl (fun ls hl => ?_)
      refine lv_iload hx hb dX4_holds_20 (lv_at hl 0 rfl) ?_
      refine lv_bipush (v := 23) hx hb dX4_holds_22 (by decide) ?_
      refine lv_icmp_ne (tgt := 48) hx hb dX4_holds_24 (by decide) (fun c_24 => ?_) (fun c_24 => ?_)
      · have hf := im c_24 hf
        refine lv_iload hx hb dX4_holds_48 (lv_at hl 0 rfl) ?_
        refine lv_i2l hx hb dX4_holds_50 rfl ?_
        refine lv_ldc2 (v := 20) hx hb hown (hts _ q3325) dX4_holds_51 ?_
        refine lv_ldc2 (v := 25) hx hb hown (hts _ q3326) dX4_holds_54 ?_
        obtain ⟨v_7, ev_7, hf⟩ := ob hf
        refine tw_S (some (.int v_7)) (rs := [.int v_7]) (rest := []) (As := [.long (v_6.toInt64), .long (20 : Int64), .long (25 : Int64)]) X I (mX4_in X.2.2.2.2.1 ev_7) lvX4_in hdX4_in ⟨Nat.le_trans (Nat.le_of_ble_eq_true rfl) hR.1, Nat.le_trans (Nat.le_of_ble_eq_true rfl) hR.2⟩ rfl hl.1 rfl (Nat.le_of_ble_eq_true rfl) rfl dX4_holds_57 (fun H locs cells slots I => ?_)
        refine lv_if_eq (tgt := 104) hx hb dX4_holds_60 (by decide) (fun c_60 => ?_) (fun c_60 => ?_)
        · have hf := ip c_60 hf
          refine lv_aload_n hx hb dX4_holds_104 rfl (lv_at hl 1 rfl) ?_
          refine tw_get X I 50 (v := .ref (h + 24)) (by decide) q2737 rfl dX4_holds_105 ?_
          refine lv_iload_n hx hb dX4_holds_108 rfl (lv_at hl 3 rfl) ?_
          refine lv_iload hx hb dX4_holds_109 (lv_at hl 0 rfl) ?_
          refine lv_bipush (v := 100) hx hb dX4_holds_111 (by decide) ?_
          refine lv_icmp_lt (tgt := 124) hx hb dX4_holds_113 (by decide) (fun c_113 => ?_) (fun c_113 => ?_)
          · have hf := ip c_113 hf
            refine lv_aload_n hx hb dX4_holds_124 rfl (lv_at hl 1 rfl) ?_
            refine lv_iload hx hb dX4_holds_125 (lv_at hl 0 rfl) ?_
            refine lv_iload_n hx hb dX4_holds_127 rfl (lv_at hl 2 rfl) ?_
            obtain ⟨v_9, ev_9, hf⟩ := ob hf
            refine tw_V (some (.int v_9)) (rs := [.int v_9, .int x2, .ref (h + 24)]) (rest := [.int x2, .ref (h + 24)]) (As := [.int v_6, .int x1]) X I (mX4_propertyOf X.2.2.2.2.1 ev_9) lvX4_propertyOf hdX4_propertyOf ⟨Nat.le_trans (Nat.le_of_ble_eq_true rfl) hR.1, Nat.le_trans (Nat.le_of_ble_eq_true rfl) hR.2⟩ rfl hl.1 rfl (Nat.le_of_ble_eq_true rfl) rfl dX4_holds_128 (fun H locs cells slots I => ?_)
            exact wX4_holds_131 hR X N (fX4_holds_4 N n) ih _ _ _ _ _ _ _ _ _ _ _ I (lv_sub hl [1, 2, 3, 4] rfl) hf
          · have hf := im c_113 hf
            refine lv_iload hx hb dX4_holds_116 (lv_at hl 0 rfl) ?_
            refine lv_bipush (v := 100) hx hb dX4_holds_118 (by decide) ?_
            refine lv_isub hx hb dX4_holds_120 ?_
            refine lv_goto (tgt := 131) hx hb dX4_holds_121 (by decide) ?_
            exact wX4_holds_131 hR X N (fX4_holds_4 N n) ih _ _ _ _ _ _ _ _ _ _ _ I (lv_sub hl [1, 2, 3, 4] rfl) hf
        · have hf := im c_60 hf
          obtain ⟨x2_11, ex2_11, hf⟩ := ol hf
          refine lv_iinc (v := x2_11) (lv' := [(2, .int x2_11), (4, .int v_6), (0, .ref h), (1, .int x1), (3, .int x3)]) hx hb dX4_holds_63 hl (k := 3) rfl ex2_11 (by decide) rfl (fun ls hl => ?_)
          refine lv_aload_n hx hb dX4_holds_66 rfl (lv_at hl 2 rfl) ?_
          refine tw_get X I 50 (v := .ref (h + 24)) (by decide) q2737 rfl dX4_holds_67 ?_
          refine lv_iload_n hx hb dX4_holds_70 rfl (lv_at hl 0 rfl) ?_
          refine lv_iconst (v := 1) hx hb dX4_holds_71 (by decide) ?_
          refine lv_isub hx hb dX4_holds_72 ?_
          refine lv_iload hx hb dX4_holds_73 (lv_at hl 1 rfl) ?_
          refine lv_aload_n hx hb dX4_holds_75 rfl (lv_at hl 2 rfl) ?_
          refine tw_get X I 50 (v := .ref (h + 24)) (by decide) q2737 rfl dX4_holds_76 ?_
          refine lv_iload_n hx hb dX4_holds_79 rfl (lv_at hl 0 rfl) ?_
          refine lv_iconst (v := 1) hx hb dX4_holds_80 (by decide) ?_
          refine lv_isub hx hb dX4_holds_81 ?_
          obtain ⟨v_12, ev_12, hf⟩ := ob hf
          refine tw_ald X I 24 (by decide) (by decide) (by decide) ev_12 dX4_holds_82 ?_
          refine lv_aload_n hx hb dX4_holds_83 rfl (lv_at hl 2 rfl) ?_
          refine tw_get X I 50 (v := .ref (h + 24)) (by decide) q2737 rfl dX4_holds_84 ?_
          refine lv_iload_n hx hb dX4_holds_87 rfl (lv_at hl 0 rfl) ?_
          obtain ⟨v_13, ev_13, hf⟩ := ob hf
          refine tw_ald X I 24 (by decide) (by decide) (by decide) ev_13 dX4_holds_88 ?_
          obtain ⟨v_14, ev_14, hf⟩ := ob hf
          refine tw_S (some (.int v_14)) (rs := [.int v_14, .int (x2_11 - (1 : Int32)), .ref (h + 24)]) (rest := [.int (x2_11 - (1 : Int32)), .ref (h + 24)]) (As := [.int v_6, .int v_12, .int v_13]) X I (mX4_joined X.2.2.2.2.1 ev_14) lvX4_joined hdX4_joined ⟨Nat.le_trans (Nat.le_of_ble_eq_true rfl) hR.1, Nat.le_trans (Nat.le_of_ble_eq_true rfl) hR.2⟩ rfl hl.1 rfl (Nat.le_of_ble_eq_true rfl) rfl dX4_holds_89 (fun H locs cells slots I => ?_)
          refine lv_if_eq (tgt := 99) hx hb dX4_holds_92 (by decide) (fun c_92 => ?_) (fun c_92 => ?_)
          · have hf := ip c_92 hf
            refine lv_iconst (v := 0) hx hb dX4_holds_99 (by decide) ?_
            exact wX4_holds_100 hR X N (fX4_holds_4 N n) ih _ _ _ _ _ _ _ _ _ _ _ I (lv_sub hl [2, 3, 0, 4] rfl) hf
          · have hf := im c_92 hf
            refine lv_iconst (v := 1) hx hb dX4_holds_95 (by decide) ?_
            refine lv_goto (tgt := 100) hx hb dX4_holds_96 (by decide) ?_
            exact wX4_holds_100 hR X N (fX4_holds_4 N n) ih _ _ _ _ _ _ _ _ _ _ _ I (lv_sub hl [2, 3, 0, 4] rfl) hf
      · have hf := ip c_24 hf
        refine lv_aload_n hx hb dX4_holds_27 rfl (lv_at hl 1 rfl) ?_
        refine tw_get X I 50 (v := .ref (h + 24)) (by decide) q2737 rfl dX4_holds_28 ?_
        refine lv_iload_n hx hb dX4_holds_31 rfl (lv_at hl 3 rfl) ?_
        refine lv_iconst (v := 1) hx hb dX4_holds_32 (by decide) ?_
        refine lv_isub hx hb dX4_holds_33 ?_
        refine lv_iconst (v := 1) hx hb dX4_holds_34 (by decide) ?_
        refine lv_aload_n hx hb dX4_holds_35 rfl (lv_at hl 1 rfl) ?_
        refine tw_get X I 50 (v := .ref (h + 24)) (by decide) q2737 rfl dX4_holds_36 ?_
        refine lv_iload_n hx hb dX4_holds_39 rfl (lv_at hl 3 rfl) ?_
        refine lv_iconst (v := 1) hx hb dX4_holds_40 (by decide) ?_
        refine lv_isub hx hb dX4_holds_41 ?_
        obtain ⟨v_16, ev_16, hf⟩ := ob hf
        refine tw_ald X I 24 (by decide) (by decide) (by decide) ev_16 dX4_holds_42 ?_
        refine lv_isub hx hb dX4_holds_43 ?_
        obtain ⟨σ_17, eσ_17, hf⟩ := ob hf
        refine tw_ast X I 24 (by decide) (by decide) (by decide) eσ_17 dX4_holds_44 (fun H locs I => ?_)
        refine lv_goto (tgt := 135) hx hb dX4_holds_45 (by decide) ?_
        exact wX4_holds_135 hR X N (fX4_holds_4 N n) ih _ _ _ _ _ _ _ _ _ I (lv_sub hl [1, 2, 3, 4] rfl) hf
theorem wX4_holds_0 {E : EV} {l : Launch} {p : Program} {e : Env} {s : State} {m : MethodId} {args : Array Value} {below : List Frame} {meth : Method} {c : Code} {R : Room} {h : Nat} {S : St} {res : (Int32 × TS)} (hR : 2 ≤ R.frames ∧ 44 ≤ R.locals) (X : MX E p s m args meth c cX4_holds 5 (some .boolean) RX4 "holds") (N : Nat) : ∀ (x1 : Int32) (σ : TS) (H : Heap) (locs : List Loc) (cells slots : Nat) (ls : Array Slot), WI E R s (twS h σ S) H locs cells slots → lv_has ls 5 [(0, .ref h), (1, .int x1)] → fX4_holds N σ x1 = some res → W p l e R s m args below meth c H locs cells slots (MQ below (Qd E R.cells R.slots (some (.int res.1)) (twS h res.2 S)) args s R.cells R.slots (fr E)) (F0 m 0 ls []) := by
  intro x1 σ H locs cells slots ls I hl hf
  obtain ⟨⟨hx, hb, hml, hown, hts⟩, -⟩ := id X
  unfold fX4_holds at hf
  refine lv_iconst (v := 0) hx hb dX4_holds_0 (by decide) ?_
  refine lv_istore_n (lv' := [(2, .int (0 : Int32)), (0, .ref h), (1, .int x1)]) hx hb dX4_holds_1 rfl hl (by decide) rfl (fun ls hl => ?_)
  refine lv_iconst (v := 0) hx hb dX4_holds_2 (by decide) ?_
  refine lv_istore_n (lv' := [(3, .int (0 : Int32)), (2, .int (0 : Int32)), (0, .ref h), (1, .int x1)]) hx hb dX4_holds_3 rfl hl (by decide) rfl (fun ls hl => ?_)
  exact wX4_holds_4 hR X N N _ _ _ _ _ _ _ _ _ I (lv_sub hl [2, 3, 1, 0] rfl) hf
theorem mX4_holds {E : EV} {l : Launch} {h : Nat} {S : St} {N : Nat} {σ : TS} {x1 : Int32} {res : (Int32 × TS)} (hE : EK E) (hf : fX4_holds N σ x1 = some res) : CM E l yX4_holds (ws_ yX4_holds cX4_holds 5 (some .boolean)) 2 44 [.ref h, .int x1] (twS h σ S) (some (.int res.1)) (twS h res.2 S) := by
  refine CM.of hE (by decide) rfl rfl (Nat.le_of_ble_eq_true rfl) ?_
  intro p e s m below meth c X I ls hl
  exact wX4_holds_0 ⟨Nat.le_refl _, Nat.le_refl _⟩ X N _ _ _ _ _ _ _ I hl hf
/-! query(I)I -/
theorem wX4_query_123 {E : EV} {l : Launch} {p : Program} {e : Env} {s : State} {m : MethodId} {args : Array Value} {below : List Frame} {meth : Method} {c : Code} {R : Room} {h : Nat} {S : St} {res : (Int32 × TS)} (hR : 7 ≤ R.frames ∧ 148 ≤ R.locals) (X : MX E p s m args meth c cX4_query 5 (some .int) RX4 "query") (N : Nat) (r90 : Int32 → Int32 → Int32 → TS → Option (Int32 × TS)) (hr90 : ∀ (x2 : Int32) (x3 : Int32) (x4 : Int32) (σ : TS) (H : Heap) (locs : List Loc) (cells slots : Nat) (ls : Array Slot), WI E R s (twS h σ S) H locs cells slots → lv_has ls 5 [(0, .ref h), (2, .int x2), (3, .int x3), (4, .int x4)] → r90 x2 x3 x4 σ = some res → W p l e R s m args below meth c H locs cells slots (MQ below (Qd E R.cells R.slots (some (.int res.1)) (twS h res.2 S)) args s R.cells R.slots (fr E)) (F0 m 90 ls [])) : ∀ (x2 : Int32) (x3 : Int32) (x4 : Int32) (σ : TS) (H : Heap) (locs : List Loc) (cells slots : Nat) (ls : Array Slot), WI E R s (twS h σ S) H locs cells slots → lv_has ls 5 [(0, .ref h), (2, .int x2), (3, .int x3), (4, .int x4)] → fX4_query_123 N r90 x2 x3 x4 σ = some res → W p l e R s m args below meth c H locs cells slots (MQ below (Qd E R.cells R.slots (some (.int res.1)) (twS h res.2 S)) args s R.cells R.slots (fr E)) (F0 m 123 ls []) := by
  intro x2 x3 x4 σ H locs cells slots ls I hl hf
  obtain ⟨⟨hx, hb, hml, hown, hts⟩, -⟩ := id X
  unfold fX4_query_123 at hf
  obtain ⟨x4_1, ex4_1, hf⟩ := ol hf
  refine lv_iinc (v := x4_1) (lv' := [(4, .int x4_1), (0, .ref h), (2, .int x2), (3, .int x3)]) hx hb dX4_query_123 hl (k := 3) rfl ex4_1 (by decide) rfl (fun ls hl => ?_)
  refine lv_goto (tgt := 90) hx hb dX4_query_126 (by decide) ?_
  exact hr90 _ _ _ _ _ _ _ _ _ I (lv_sub hl [1, 2, 3, 0] rfl) hf
theorem wX4_query_90 {E : EV} {l : Launch} {p : Program} {e : Env} {s : State} {m : MethodId} {args : Array Value} {below : List Frame} {meth : Method} {c : Code} {R : Room} {h : Nat} {S : St} {res : (Int32 × TS)} (hR : 7 ≤ R.frames ∧ 148 ≤ R.locals) (X : MX E p s m args meth c cX4_query 5 (some .int) RX4 "query") (N : Nat) : ∀ (n : Nat) (x2 : Int32) (x3 : Int32) (x4 : Int32) (σ : TS) (H : Heap) (locs : List Loc) (cells slots : Nat) (ls : Array Slot), WI E R s (twS h σ S) H locs cells slots → lv_has ls 5 [(0, .ref h), (2, .int x2), (3, .int x3), (4, .int x4)] → fX4_query_90 N n x2 x3 x4 σ = some res → W p l e R s m args below meth c H locs cells slots (MQ below (Qd E R.cells R.slots (some (.int res.1)) (twS h res.2 S)) args s R.cells R.slots (fr E)) (F0 m 90 ls []) := by
  intro n
  induction n with
  | zero => intro x2 x3 x4 σ H locs cells slots ls I hl hf; exact nomatch (show none = some res from hf)
  | succ n ih =>
    intro x2 x3 x4 σ H locs cells slots ls I hl hf
    obtain ⟨⟨hx, hb, hml, hown, hts⟩, -⟩ := id X
    rw [fX4_query_90.eq_2] at hf
    refine lv_iload hx hb dX4_query_90 (lv_at hl 3 rfl) ?_
    refine lv_aload_n hx hb dX4_query_92 rfl (lv_at hl 0 rfl) ?_
    refine tw_get X I 1 (v := .ref (h + 1)) (by decide) q2688 rfl dX4_query_93 ?_
    refine lv_iconst (v := 1) hx hb dX4_query_96 (by decide) ?_
    obtain ⟨v_2, ev_2, hf⟩ := ob hf
    refine tw_ald X I 1 (by decide) (by decide) (by decide) ev_2 dX4_query_97 ?_
    refine lv_icmp_ge (tgt := 129) hx hb dX4_query_98 (by decide) (fun c_98 => ?_) (fun c_98 => ?_)
    · have hf := ip c_98 hf
      refine lv_iload_n hx hb dX4_query_129 rfl (lv_at hl 1 rfl) ?_
      refine lv_if_eq (tgt := 137) hx hb dX4_query_130 (by decide) (fun c_130 => ?_) (fun c_130 => ?_)
      · have hf := ip c_130 hf
        refine lv_iload_n hx hb dX4_query_137 rfl (lv_at hl 2 rfl) ?_
        cases os hf
        exact r_iret X I dX4_query_138
      · have hf := im c_130 hf
        refine lv_iconst (v := (-1)) hx hb dX4_query_133 (by decide) ?_
        refine lv_goto (tgt := 138) hx hb dX4_query_134 (by decide) ?_
        cases os hf
        exact r_iret X I dX4_query_138
    · have hf := im c_98 hf
      refine lv_aload_n hx hb dX4_query_101 rfl (lv_at hl 0 rfl) ?_
      refine lv_iload hx hb dX4_query_102 (lv_at hl 3 rfl) ?_
      obtain ⟨v_3, ev_3, hf⟩ := ob hf
      refine tw_V (some (.int v_3.1)) (rs := [.int v_3.1]) (rest := []) (As := [.int x4]) X I (mX4_holds X.2.2.2.2.1 ev_3) lvX4_holds hdX4_holds ⟨Nat.le_trans (Nat.le_of_ble_eq_true rfl) hR.1, Nat.le_trans (Nat.le_of_ble_eq_true rfl) hR.2⟩ rfl hl.1 rfl (Nat.le_of_ble_eq_true rfl) rfl dX4_query_104 (fun H locs cells slots I => ?_)
      refine lv_if_ne (tgt := 113) hx hb dX4_query_107 (by decide) (fun c_107 => ?_) (fun c_107 => ?_)
      · have hf := im c_107 hf
        refine lv_iload_n hx hb dX4_query_113 rfl (lv_at hl 1 rfl) ?_
        refine lv_if_eq (tgt := 120) hx hb dX4_query_114 (by decide) (fun c_114 => ?_) (fun c_114 => ?_)
        · have hf := ip c_114 hf
          obtain ⟨x3_5, ex3_5, hf⟩ := ol hf
          refine lv_iinc (v := x3_5) (lv' := [(3, .int x3_5), (0, .ref h), (2, .int x2), (4, .int x4)]) hx hb dX4_query_120 hl (k := 2) rfl ex3_5 (by decide) rfl (fun ls hl => ?_)
          exact wX4_query_123 hR X N (fX4_query_90 N n) ih _ _ _ _ _ _ _ _ _ I (lv_sub hl [1, 2, 0, 3] rfl) hf
        · have hf := im c_114 hf
          refine lv_iload hx hb dX4_query_117 (lv_at hl 3 rfl) ?_
          cases os hf
          exact r_iret X I dX4_query_119
      · have hf := ip c_107 hf
        refine lv_goto (tgt := 123) hx hb dX4_query_110 (by decide) ?_
        exact wX4_query_123 hR X N (fX4_query_90 N n) ih _ _ _ _ _ _ _ _ _ I (lv_sub hl [0, 1, 2, 3] rfl) hf
theorem wX4_query_65 {E : EV} {l : Launch} {p : Program} {e : Env} {s : State} {m : MethodId} {args : Array Value} {below : List Frame} {meth : Method} {c : Code} {R : Room} {h : Nat} {S : St} {res : (Int32 × TS)} (hR : 7 ≤ R.frames ∧ 148 ≤ R.locals) (X : MX E p s m args meth c cX4_query 5 (some .int) RX4 "query") (N : Nat) : ∀ (x2 : Int32) (σ : TS) (H : Heap) (locs : List Loc) (cells slots : Nat) (ls : Array Slot), WI E R s (twS h σ S) H locs cells slots → lv_has ls 5 [(0, .ref h), (2, .int x2)] → fX4_query_65 N x2 σ = some res → W p l e R s m args below meth c H locs cells slots (MQ below (Qd E R.cells R.slots (some (.int res.1)) (twS h res.2 S)) args s R.cells R.slots (fr E)) (F0 m 65 ls []) := by
  intro x2 σ H locs cells slots ls I hl hf
  obtain ⟨⟨hx, hb, hml, hown, hts⟩, -⟩ := id X
  unfold fX4_query_65 at hf
  refine lv_aload_n hx hb dX4_query_65 rfl (lv_at hl 0 rfl) ?_
  obtain ⟨σ_7, eσ_7, hf⟩ := ob hf
  refine tw_V none (rs := []) (rest := []) (As := []) X I (mX4_reads X.2.2.2.2.1 eσ_7) lvX4_reads hdX4_reads ⟨Nat.le_trans (Nat.le_of_ble_eq_true rfl) hR.1, Nat.le_trans (Nat.le_of_ble_eq_true rfl) hR.2⟩ rfl hl.1 rfl (Nat.le_of_ble_eq_true rfl) rfl dX4_query_66 (fun H locs cells slots I => ?_)
  refine lv_aload_n hx hb dX4_query_69 rfl (lv_at hl 0 rfl) ?_
  obtain ⟨v_8, ev_8, hf⟩ := ob hf
  refine tw_V (some (.int v_8)) (rs := [.int v_8]) (rest := []) (As := []) X I (mX4_isGood X.2.2.2.2.1 ev_8) lvX4_isGood hdX4_isGood ⟨Nat.le_trans (Nat.le_of_ble_eq_true rfl) hR.1, Nat.le_trans (Nat.le_of_ble_eq_true rfl) hR.2⟩ rfl hl.1 rfl (Nat.le_of_ble_eq_true rfl) rfl dX4_query_70 (fun H locs cells slots I => ?_)
  refine lv_if_ne (tgt := 85) hx hb dX4_query_73 (by decide) (fun c_73 => ?_) (fun c_73 => ?_)
  · have hf := im c_73 hf
    refine lv_iconst (v := 0) hx hb dX4_query_85 (by decide) ?_
    refine lv_istore_n (lv' := [(3, .int (0 : Int32)), (0, .ref h), (2, .int x2)]) hx hb dX4_query_86 rfl hl (by decide) rfl (fun ls hl => ?_)
    refine lv_iconst (v := 0) hx hb dX4_query_87 (by decide) ?_
    refine lv_istore (lv' := [(4, .int (0 : Int32)), (3, .int (0 : Int32)), (0, .ref h), (2, .int x2)]) hx hb dX4_query_88 hl (by decide) rfl (fun ls hl => ?_)
    exact wX4_query_90 hR X N N _ _ _ _ _ _ _ _ _ I (lv_sub hl [2, 3, 1, 0] rfl) hf
  · have hf := ip c_73 hf
    refine lv_ldcw (v := (-1000000000)) hx hb hown (hts _ q3320) dX4_query_76 ?_
    refine lv_aload_n hx hb dX4_query_79 rfl (lv_at hl 0 rfl) ?_
    refine tw_get X I 30 (v := .int (σ_7.1 0 30)) (by decide) q2717 rfl dX4_query_80 ?_
    refine lv_isub hx hb dX4_query_83 ?_
    cases os hf
    exact r_iret X I dX4_query_84
theorem wX4_query_0 {E : EV} {l : Launch} {p : Program} {e : Env} {s : State} {m : MethodId} {args : Array Value} {below : List Frame} {meth : Method} {c : Code} {R : Room} {h : Nat} {S : St} {res : (Int32 × TS)} (hR : 7 ≤ R.frames ∧ 148 ≤ R.locals) (X : MX E p s m args meth c cX4_query 5 (some .int) RX4 "query") (N : Nat) : ∀ (x1 : Int32) (σ : TS) (H : Heap) (locs : List Loc) (cells slots : Nat) (ls : Array Slot), WI E R s (twS h σ S) H locs cells slots → lv_has ls 5 [(0, .ref h), (1, .int x1)] → fX4_query N σ x1 = some res → W p l e R s m args below meth c H locs cells slots (MQ below (Qd E R.cells R.slots (some (.int res.1)) (twS h res.2 S)) args s R.cells R.slots (fr E)) (F0 m 0 ls []) := by
  intro x1 σ H locs cells slots ls I hl hf
  obtain ⟨⟨hx, hb, hml, hown, hts⟩, -⟩ := id X
  unfold fX4_query at hf
  refine lv_aload_n hx hb dX4_query_0 rfl (lv_at hl 0 rfl) ?_
  refine lv_iconst (v := 0) hx hb dX4_query_1 (by decide) ?_
  obtain ⟨σ_10, eσ_10, hf⟩ := ol hf
  refine tw_put X I 0 (ty := .int) (by decide) (by decide) rfl q2687 rfl rfl rfl rfl eσ_10 dX4_query_2 (fun H locs I => ?_)
  refine lv_aload_n hx hb dX4_query_5 rfl (lv_at hl 0 rfl) ?_
  refine lv_iload_n hx hb dX4_query_6 rfl (lv_at hl 1 rfl) ?_
  refine lv_i2l hx hb dX4_query_7 rfl ?_
  refine lv_lconst (v := 0) hx hb dX4_query_8 (by decide) ?_
  refine lv_aload_n hx hb dX4_query_9 rfl (lv_at hl 0 rfl) ?_
  refine tw_get X I 23 (v := .int (σ_10.1 0 23)) (by decide) q2710 rfl dX4_query_10 ?_
  refine lv_sipush (v := 200) hx hb dX4_query_13 (by decide) ?_
  obtain ⟨v_11, ev_11, hf⟩ := ob hf
  refine tw_S (some (.int v_11)) (rs := [.int v_11, .long (0 : Int64), .long (x1.toInt64), .ref h]) (rest := [.long (0 : Int64), .long (x1.toInt64), .ref h]) (As := [.int (σ_10.1 0 23), .int (200 : Int32)]) X I (mX4_lesser X.2.2.2.2.1 ev_11) lvX4_lesser hdX4_lesser ⟨Nat.le_trans (Nat.le_of_ble_eq_true rfl) hR.1, Nat.le_trans (Nat.le_of_ble_eq_true rfl) hR.2⟩ rfl hl.1 rfl (Nat.le_of_ble_eq_true rfl) rfl dX4_query_16 (fun H locs cells slots I => ?_)
  refine lv_i2l hx hb dX4_query_19 rfl ?_
  obtain ⟨v_13, ev_13, hf⟩ := ob hf
  refine tw_S (some (.int v_13)) (rs := [.int v_13, .ref h]) (rest := [.ref h]) (As := [.long (x1.toInt64), .long (0 : Int64), .long (v_11.toInt64)]) X I (mX4_in X.2.2.2.2.1 ev_13) lvX4_in hdX4_in ⟨Nat.le_trans (Nat.le_of_ble_eq_true rfl) hR.1, Nat.le_trans (Nat.le_of_ble_eq_true rfl) hR.2⟩ rfl hl.1 rfl (Nat.le_of_ble_eq_true rfl) rfl dX4_query_20 (fun H locs cells slots I => ?_)
  refine lv_iconst (v := 1) hx hb dX4_query_23 (by decide) ?_
  obtain ⟨v_15, ev_15, hf⟩ := ob hf
  refine tw_V (some (.int v_15.1)) (rs := [.int v_15.1]) (rest := []) (As := [.int v_13, .int (1 : Int32)]) X I (mX4_fails X.2.2.2.2.1 ev_15) lvX4_fails hdX4_fails ⟨Nat.le_trans (Nat.le_of_ble_eq_true rfl) hR.1, Nat.le_trans (Nat.le_of_ble_eq_true rfl) hR.2⟩ rfl hl.1 rfl (Nat.le_of_ble_eq_true rfl) rfl dX4_query_24 (fun H locs cells slots I => ?_)
  refine lv_if_eq (tgt := 32) hx hb dX4_query_27 (by decide) (fun c_27 => ?_) (fun c_27 => ?_)
  · have hf := ip c_27 hf
    refine lv_aload_n hx hb dX4_query_32 rfl (lv_at hl 0 rfl) ?_
    refine lv_iload_n hx hb dX4_query_33 rfl (lv_at hl 1 rfl) ?_
    obtain ⟨σ_18, eσ_18, hf⟩ := ob hf
    refine tw_V none (rs := []) (rest := []) (As := [.int x1]) X I (mX4_starts X.2.2.2.2.1 eσ_18) lvX4_starts hdX4_starts ⟨Nat.le_trans (Nat.le_of_ble_eq_true rfl) hR.1, Nat.le_trans (Nat.le_of_ble_eq_true rfl) hR.2⟩ rfl hl.1 rfl (Nat.le_of_ble_eq_true rfl) rfl dX4_query_34 (fun H locs cells slots I => ?_)
    refine lv_aload_n hx hb dX4_query_37 rfl (lv_at hl 0 rfl) ?_
    refine lv_ldc2 (v := 3379448) hx hb hown (hts _ q3267) dX4_query_38 ?_
    obtain ⟨v_19, ev_19, hf⟩ := ob hf
    refine tw_V (some (.int v_19.1)) (rs := [.int v_19.1]) (rest := []) (As := [.long (3379448 : Int64)]) X I (mX4_passes X.2.2.2.2.1 ev_19) lvX4_passes hdX4_passes ⟨Nat.le_trans (Nat.le_of_ble_eq_true rfl) hR.1, Nat.le_trans (Nat.le_of_ble_eq_true rfl) hR.2⟩ rfl hl.1 rfl (Nat.le_of_ble_eq_true rfl) rfl dX4_query_41 (fun H locs cells slots I => ?_)
    refine lv_istore_n (lv' := [(2, .int v_19.1), (0, .ref h), (1, .int x1)]) hx hb dX4_query_44 rfl hl (by decide) rfl (fun ls hl => ?_)
    refine lv_iload_n hx hb dX4_query_45 rfl (lv_at hl 0 rfl) ?_
    refine lv_if_ne (tgt := 65) hx hb dX4_query_46 (by decide) (fun c_46 => ?_) (fun c_46 => ?_)
    · have hf := im c_46 hf
      exact wX4_query_65 hR X N _ _ _ _ _ _ _ I (lv_sub hl [1, 0] rfl) hf
    · have hf := ip c_46 hf
      refine lv_aload_n hx hb dX4_query_49 rfl (lv_at hl 1 rfl) ?_
      refine lv_ldc2 (v := 257011) hx hb hown (hts _ q3268) dX4_query_50 ?_
      obtain ⟨v_21, ev_21, hf⟩ := ob hf
      refine tw_V (some (.int v_21.1)) (rs := [.int v_21.1]) (rest := []) (As := [.long (257011 : Int64)]) X I (mX4_passes X.2.2.2.2.1 ev_21) lvX4_passes hdX4_passes ⟨Nat.le_trans (Nat.le_of_ble_eq_true rfl) hR.1, Nat.le_trans (Nat.le_of_ble_eq_true rfl) hR.2⟩ rfl hl.1 rfl (Nat.le_of_ble_eq_true rfl) rfl dX4_query_53 (fun H locs cells slots I => ?_)
      refine lv_if_ne (tgt := 65) hx hb dX4_query_56 (by decide) (fun c_56 => ?_) (fun c_56 => ?_)
      · have hf := im c_56 hf
        exact wX4_query_65 hR X N _ _ _ _ _ _ _ I (lv_sub hl [1, 0] rfl) hf
      · have hf := ip c_56 hf
        refine lv_aload_n hx hb dX4_query_59 rfl (lv_at hl 1 rfl) ?_
        refine lv_iconst (v := 1) hx hb dX4_query_60 (by decide) ?_
        obtain ⟨v_23, ev_23, hf⟩ := ob hf
        refine tw_V (some (.int v_23.1)) (rs := [.int v_23.1]) (rest := []) (As := [.int (1 : Int32)]) X I (mX4_wrongs X.2.2.2.2.1 ev_23) lvX4_wrongs hdX4_wrongs ⟨Nat.le_trans (Nat.le_of_ble_eq_true rfl) hR.1, Nat.le_trans (Nat.le_of_ble_eq_true rfl) hR.2⟩ rfl hl.1 rfl (Nat.le_of_ble_eq_true rfl) rfl dX4_query_61 (fun H locs cells slots I => ?_)
        refine lv_pop hx hb dX4_query_64 rfl ?_
        exact wX4_query_65 hR X N _ _ _ _ _ _ _ I (lv_sub hl [1, 0] rfl) hf
  · have hf := im c_27 hf
    refine lv_iconst (v := 0) hx hb dX4_query_30 (by decide) ?_
    cases os hf
    exact r_iret X I dX4_query_31
theorem mX4_query {E : EV} {l : Launch} {h : Nat} {S : St} {N : Nat} {σ : TS} {x1 : Int32} {res : (Int32 × TS)} (hE : EK E) (hf : fX4_query N σ x1 = some res) : CM E l yX4_query (ws_ yX4_query cX4_query 5 (some .int)) 7 148 [.ref h, .int x1] (twS h σ S) (some (.int res.1)) (twS h res.2 S) := by
  refine CM.of hE (by decide) rfl rfl (Nat.le_of_ble_eq_true rfl) ?_
  intro p e s m below meth c X I ls hl
  exact wX4_query_0 ⟨Nat.le_refl _, Nat.le_refl _⟩ X N _ _ _ _ _ _ _ I hl hf
