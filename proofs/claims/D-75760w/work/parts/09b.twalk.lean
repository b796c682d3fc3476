set_option maxRecDepth 100000
/-! taxiRead()V -/
theorem lvX4_taxiRead : GoodIn lw_all (wsV RX4 241 RX4 yX4_taxiRead (ws_ yX4_taxiRead cX4_taxiRead 6 none)) := lw_V q2945 q2947 qs63 q120 q2948
theorem hdX4_taxiRead : yX4_taxiRead.cls = RX4 ∧ yX4_taxiRead.cls ≠ "java/lang/invoke/MethodHandle" ∧ yX4_taxiRead.cls ≠ "java/lang/invoke/VarHandle" ∧ (parseMethodDescriptor yX4_taxiRead.desc).map (fun d => d.parameters.length) = some 0 := by decide +kernel
theorem wX4_taxiRead_73 {E : EV} {l : Launch} {p : Program} {e : Env} {s : State} {m : MethodId} {args : Array Value} {below : List Frame} {meth : Method} {c : Code} {R : Room} {h : Nat} {S : St} {res : TS} (hR : 4 ≤ R.frames ∧ 84 ≤ R.locals) (X : MX E p s m args meth c cX4_taxiRead 6 none RX4 "taxiRead") (N : Nat) : ∀ (x1 : Int32) (x2 : Int32) (x3 : Int32) (σ : TS) (H : Heap) (locs : List Loc) (cells slots : Nat) (ls : Array Slot), WI E R s (twS h σ S) H locs cells slots → lv_has ls 6 [(0, .ref h), (1, .int x1), (2, .int x2), (3, .int x3)] → fX4_taxiRead_73 N x1 x2 x3 σ = some res → W p l e R s m args below meth c H locs cells slots (MQ below (Qd E R.cells R.slots none (twS h res S)) args s R.cells R.slots (fr E)) (F0 m 73 ls []) := by
  intro x1 x2 x3 σ H locs cells slots ls I hl hf
  obtain ⟨⟨hx, hb, hml, hown, hts⟩, -⟩ := id X
  unfold fX4_taxiRead_73 at hf
  refine lv_aload_n hx hb dX4_taxiRead_73 rfl (lv_at hl 0 rfl) ?_
  refine lv_iconst (v := 0) hx hb dX4_taxiRead_74 (by decide) ?_
  refine lv_sipush (v := 2879) hx hb dX4_taxiRead_75 (by decide) ?_
  obtain ⟨v_1, ev_1, hf⟩ := ob hf
  refine tw_V (some (.int v_1.1)) (rs := [.int v_1.1]) (rest := []) (As := [.int (0 : Int32), .int (2879 : Int32)]) X I (mX4_number X.2.2.2.2.1 ev_1) lvX4_number hdX4_number ⟨Nat.le_trans (Nat.le_of_ble_eq_true rfl) hR.1, Nat.le_trans (Nat.le_of_ble_eq_true rfl) hR.2⟩ rfl hl.1 rfl (Nat.le_of_ble_eq_true rfl) rfl dX4_taxiRead_78 (fun H locs cells slots I => ?_)
  refine lv_istore (lv' := [(4, .int v_1.1), (0, .ref h), (1, .int x1), (2, .int x2), (3, .int x3)]) hx hb dX4_taxiRead_81 hl (by decide) rfl (fun ls hl => ?_)
  refine lv_aload_n hx hb dX4_taxiRead_83 rfl (lv_at hl 1 rfl) ?_
  obtain ⟨v_3, ev_3, hf⟩ := ob hf
  refine tw_V (some (.int v_3)) (rs := [.int v_3]) (rest := []) (As := []) X I (mX4_isGood X.2.2.2.2.1 ev_3) lvX4_isGood hdX4_isGood ⟨Nat.le_trans (Nat.le_of_ble_eq_true rfl) hR.1, Nat.le_trans (Nat.le_of_ble_eq_true rfl) hR.2⟩ rfl hl.1 rfl (Nat.le_of_ble_eq_true rfl) rfl dX4_taxiRead_84 (fun H locs cells slots I => ?_)
  refine lv_if_ne (tgt := 91) hx hb dX4_taxiRead_87 (by decide) (fun c_87 => ?_) (fun c_87 => ?_)
  · have hf := im c_87 hf
    refine lv_bipush (v := 13) hx hb dX4_taxiRead_91 (by decide) ?_
    refine lv_bipush (v := 40) hx hb dX4_taxiRead_93 (by decide) ?_
    refine lv_aload_n hx hb dX4_taxiRead_95 rfl (lv_at hl 1 rfl) ?_
    refine tw_get X I 9 (v := .int (v_1.2.1 0 9)) (by decide) q2696 rfl dX4_taxiRead_96 ?_
    refine lv_imul hx hb dX4_taxiRead_99 ?_
    refine lv_iadd hx hb dX4_taxiRead_100 ?_
    obtain ⟨x5_5, ex5_5, hf⟩ := ol hf
    refine nm_i ex5_5 ?_
    refine lv_istore (lv' := [(5, .int x5_5), (4, .int v_1.1), (0, .ref h), (1, .int x1), (2, .int x2), (3, .int x3)]) hx hb dX4_taxiRead_101 hl (by decide) rfl (fun ls hl => ?_)
    refine lv_aload_n hx hb dX4_taxiRead_103 rfl (lv_at hl 2 rfl) ?_
    refine tw_get X I 12 (v := .ref (h + 6)) (by decide) q2699 rfl dX4_taxiRead_104 ?_
    refine lv_aload_n hx hb dX4_taxiRead_107 rfl (lv_at hl 2 rfl) ?_
    refine tw_get X I 9 (v := .int (v_1.2.1 0 9)) (by decide) q2696 rfl dX4_taxiRead_108 ?_
    refine lv_iload_n hx hb dX4_taxiRead_111 rfl (lv_at hl 3 rfl) ?_
    obtain ⟨σ_6, eσ_6, hf⟩ := ob hf
    refine tw_ast X I 6 (by decide) (by decide) (by decide) eσ_6 dX4_taxiRead_112 (fun H locs I => ?_)
    refine lv_aload_n hx hb dX4_taxiRead_113 rfl (lv_at hl 2 rfl) ?_
    refine tw_get X I 13 (v := .ref (h + 7)) (by decide) q2700 rfl dX4_taxiRead_114 ?_
    refine lv_aload_n hx hb dX4_taxiRead_117 rfl (lv_at hl 2 rfl) ?_
    refine tw_get X I 9 (v := .int (σ_6.1 0 9)) (by decide) q2696 rfl dX4_taxiRead_118 ?_
    refine lv_iload_n hx hb dX4_taxiRead_121 rfl (lv_at hl 5 rfl) ?_
    obtain ⟨σ_7, eσ_7, hf⟩ := ob hf
    refine tw_ast X I 7 (by decide) (by decide) (by decide) eσ_7 dX4_taxiRead_122 (fun H locs I => ?_)
    refine lv_aload_n hx hb dX4_taxiRead_123 rfl (lv_at hl 2 rfl) ?_
    refine tw_get X I 2 (v := .ref (h + 2)) (by decide) q2689 rfl dX4_taxiRead_124 ?_
    refine lv_iload hx hb dX4_taxiRead_127 (lv_at hl 0 rfl) ?_
    refine lv_iconst (v := 0) hx hb dX4_taxiRead_129 (by decide) ?_
    refine lv_iadd hx hb dX4_taxiRead_130 ?_
    refine lv_iload_n hx hb dX4_taxiRead_131 rfl (lv_at hl 4 rfl) ?_
    obtain ⟨σ_8, eσ_8, hf⟩ := ob hf
    refine tw_ast X I 2 (by decide) (by decide) (by decide) eσ_8 dX4_taxiRead_132 (fun H locs I => ?_)
    refine lv_aload_n hx hb dX4_taxiRead_133 rfl (lv_at hl 2 rfl) ?_
    refine tw_get X I 2 (v := .ref (h + 2)) (by decide) q2689 rfl dX4_taxiRead_134 ?_
    refine lv_iload hx hb dX4_taxiRead_137 (lv_at hl 0 rfl) ?_
    refine lv_iconst (v := 1) hx hb dX4_taxiRead_139 (by decide) ?_
    refine lv_iadd hx hb dX4_taxiRead_140 ?_
    refine lv_iload_n hx hb dX4_taxiRead_141 rfl (lv_at hl 5 rfl) ?_
    obtain ⟨σ_9, eσ_9, hf⟩ := ob hf
    refine tw_ast X I 2 (by decide) (by decide) (by decide) eσ_9 dX4_taxiRead_142 (fun H locs I => ?_)
    refine lv_aload_n hx hb dX4_taxiRead_143 rfl (lv_at hl 2 rfl) ?_
    refine tw_get X I 2 (v := .ref (h + 2)) (by decide) q2689 rfl dX4_taxiRead_144 ?_
    refine lv_iload hx hb dX4_taxiRead_147 (lv_at hl 0 rfl) ?_
    refine lv_iconst (v := 3) hx hb dX4_taxiRead_149 (by decide) ?_
    refine lv_iadd hx hb dX4_taxiRead_150 ?_
    refine lv_iconst (v := (-1)) hx hb dX4_taxiRead_151 (by decide) ?_
    obtain ⟨σ_10, eσ_10, hf⟩ := ob hf
    refine tw_ast X I 2 (by decide) (by decide) (by decide) eσ_10 dX4_taxiRead_152 (fun H locs I => ?_)
    refine lv_aload_n hx hb dX4_taxiRead_153 rfl (lv_at hl 2 rfl) ?_
    refine tw_get X I 2 (v := .ref (h + 2)) (by decide) q2689 rfl dX4_taxiRead_154 ?_
    refine lv_iload hx hb dX4_taxiRead_157 (lv_at hl 0 rfl) ?_
    refine lv_iconst (v := 4) hx hb dX4_taxiRead_159 (by decide) ?_
    refine lv_iadd hx hb dX4_taxiRead_160 ?_
    refine lv_iload hx hb dX4_taxiRead_161 (lv_at hl 1 rfl) ?_
    obtain ⟨σ_11, eσ_11, hf⟩ := ob hf
    refine tw_ast X I 2 (by decide) (by decide) (by decide) eσ_11 dX4_taxiRead_163 (fun H locs I => ?_)
    refine lv_aload_n hx hb dX4_taxiRead_164 rfl (lv_at hl 2 rfl) ?_
    refine lv_dup hx hb dX4_taxiRead_165 rfl ?_
    refine tw_get X I 9 (v := .int (σ_11.1 0 9)) (by decide) q2696 rfl dX4_taxiRead_166 ?_
    refine lv_iconst (v := 1) hx hb dX4_taxiRead_169 (by decide) ?_
    refine lv_iadd hx hb dX4_taxiRead_170 ?_
    obtain ⟨σ_12, eσ_12, hf⟩ := ol hf
    refine tw_put X I 9 (ty := .int) (by decide) (by decide) rfl q2696 rfl rfl rfl rfl eσ_12 dX4_taxiRead_171 (fun H locs I => ?_)
    cases os hf
    exact r_vret X I dX4_taxiRead_174
  · have hf := ip c_87 hf
    cases os hf
    exact r_vret X I dX4_taxiRead_90
theorem wX4_taxiRead_0 {E : EV} {l : Launch} {p : Program} {e : Env} {s : State} {m : MethodId} {args : Array Value} {below : List Frame} {meth : Method} {c : Code} {R : Room} {h : Nat} {S : St} {res : TS} (hR : 4 ≤ R.frames ∧ 84 ≤ R.locals) (X : MX E p s m args meth c cX4_taxiRead 6 none RX4 "taxiRead") (N : Nat) : ∀ (σ : TS) (H : Heap) (locs : List Loc) (cells slots : Nat) (ls : Array Slot), WI E R s (twS h σ S) H locs cells slots → lv_has ls 6 [(0, .ref h)] → fX4_taxiRead N σ = some res → W p l e R s m args below meth c H locs cells slots (MQ below (Qd E R.cells R.slots none (twS h res S)) args s R.cells R.slots (fr E)) (F0 m 0 ls []) := by
  intro σ H locs cells slots ls I hl hf
  obtain ⟨⟨hx, hb, hml, hown, hts⟩, -⟩ := id X
  unfold fX4_taxiRead at hf
  refine lv_aload_n hx hb dX4_taxiRead_0 rfl (lv_at hl 0 rfl) ?_
  refine lv_iconst (v := 1) hx hb dX4_taxiRead_1 (by decide) ?_
  refine lv_bipush (v := 6) hx hb dX4_taxiRead_2 (by decide) ?_
  obtain ⟨v_13, ev_13, hf⟩ := ob hf
  refine tw_V (some (.int v_13.1)) (rs := [.int v_13.1]) (rest := []) (As := [.int (1 : Int32), .int (6 : Int32)]) X I (mX4_number X.2.2.2.2.1 ev_13) lvX4_number hdX4_number ⟨Nat.le_trans (Nat.le_of_ble_eq_true rfl) hR.1, Nat.le_trans (Nat.le_of_ble_eq_true rfl) hR.2⟩ rfl hl.1 rfl (Nat.le_of_ble_eq_true rfl) rfl dX4_taxiRead_4 (fun H locs cells slots I => ?_)
  refine lv_istore_n (lv' := [(1, .int v_13.1), (0, .ref h)]) hx hb dX4_taxiRead_7 rfl hl (by decide) rfl (fun ls hl => ?_)
  refine lv_aload_n hx hb dX4_taxiRead_8 rfl (lv_at hl 1 rfl) ?_
  refine lv_iconst (v := 0) hx hb dX4_taxiRead_9 (by decide) ?_
  refine lv_aload_n hx hb dX4_taxiRead_10 rfl (lv_at hl 1 rfl) ?_
  refine tw_get X I 7 (v := .int (v_13.2.1 0 7)) (by decide) q2694 rfl dX4_taxiRead_11 ?_
  refine lv_iconst (v := 1) hx hb dX4_taxiRead_14 (by decide) ?_
  refine lv_isub hx hb dX4_taxiRead_15 ?_
  obtain ⟨v_15, ev_15, hf⟩ := ob hf
  refine tw_V (some (.int v_15.1)) (rs := [.int v_15.1]) (rest := []) (As := [.int (0 : Int32), .int ((v_13.2.1 0 7) - (1 : Int32))]) X I (mX4_number X.2.2.2.2.1 ev_15) lvX4_number hdX4_number ⟨Nat.le_trans (Nat.le_of_ble_eq_true rfl) hR.1, Nat.le_trans (Nat.le_of_ble_eq_true rfl) hR.2⟩ rfl hl.1 rfl (Nat.le_of_ble_eq_true rfl) rfl dX4_taxiRead_16 (fun H locs cells slots I => ?_)
  refine lv_istore_n (lv' := [(2, .int v_15.1), (1, .int v_13.1), (0, .ref h)]) hx hb dX4_taxiRead_19 rfl hl (by decide) rfl (fun ls hl => ?_)
  refine lv_aload_n hx hb dX4_taxiRead_20 rfl (lv_at hl 2 rfl) ?_
  refine lv_iconst (v := 0) hx hb dX4_taxiRead_21 (by decide) ?_
  refine lv_sipush (v := 2879) hx hb dX4_taxiRead_22 (by decide) ?_
  obtain ⟨v_17, ev_17, hf⟩ := ob hf
  refine tw_V (some (.int v_17.1)) (rs := [.int v_17.1]) (rest := []) (As := [.int (0 : Int32), .int (2879 : Int32)]) X I (mX4_number X.2.2.2.2.1 ev_17) lvX4_number hdX4_number ⟨Nat.le_trans (Nat.le_of_ble_eq_true rfl) hR.1, Nat.le_trans (Nat.le_of_ble_eq_true rfl) hR.2⟩ rfl hl.1 rfl (Nat.le_of_ble_eq_true rfl) rfl dX4_taxiRead_25 (fun H locs cells slots I => ?_)
  refine lv_istore_n (lv' := [(3, .int v_17.1), (2, .int v_15.1), (1, .int v_13.1), (0, .ref h)]) hx hb dX4_taxiRead_28 rfl hl (by decide) rfl (fun ls hl => ?_)
  refine lv_aload_n hx hb dX4_taxiRead_29 rfl (lv_at hl 3 rfl) ?_
  obtain ⟨v_19, ev_19, hf⟩ := ob hf
  refine tw_V (some (.int v_19)) (rs := [.int v_19]) (rest := []) (As := []) X I (mX4_isGood X.2.2.2.2.1 ev_19) lvX4_isGood hdX4_isGood ⟨Nat.le_trans (Nat.le_of_ble_eq_true rfl) hR.1, Nat.le_trans (Nat.le_of_ble_eq_true rfl) hR.2⟩ rfl hl.1 rfl (Nat.le_of_ble_eq_true rfl) rfl dX4_taxiRead_30 (fun H locs cells slots I => ?_)
  refine lv_if_eq (tgt := 73) hx hb dX4_taxiRead_33 (by decide) (fun c_33 => ?_) (fun c_33 => ?_)
  · have hf := ip c_33 hf
    exact wX4_taxiRead_73 hR X N _ _ _ _ _ _ _ _ _ I (lv_sub hl [3, 2, 1, 0] rfl) hf
  · have hf := im c_33 hf
    refine lv_aload_n hx hb dX4_taxiRead_36 rfl (lv_at hl 3 rfl) ?_
    refine tw_get X I 27 (v := .int (v_17.2.1 0 27)) (by decide) q2714 rfl dX4_taxiRead_37 ?_
    refine lv_iconst (v := 2) hx hb dX4_taxiRead_40 (by decide) ?_
    refine lv_icmp_ne (tgt := 73) hx hb dX4_taxiRead_41 (by decide) (fun c_41 => ?_) (fun c_41 => ?_)
    · have hf := im c_41 hf
      exact wX4_taxiRead_73 hR X N _ _ _ _ _ _ _ _ _ I (lv_sub hl [3, 2, 1, 0] rfl) hf
    · have hf := ip c_41 hf
      refine lv_aload_n hx hb dX4_taxiRead_44 rfl (lv_at hl 3 rfl) ?_
      refine tw_get X I 28 (v := .int (v_17.2.1 0 28)) (by decide) q2715 rfl dX4_taxiRead_45 ?_
      refine lv_i2l hx hb dX4_taxiRead_48 rfl ?_
      refine lv_lconst (v := 0) hx hb dX4_taxiRead_49 (by decide) ?_
      refine lv_ldc2 (v := 2879) hx hb hown (hts _ q2949) dX4_taxiRead_50 ?_
      obtain ⟨v_21, ev_21, hf⟩ := ob hf
      refine tw_S (some (.int v_21)) (rs := [.int v_21]) (rest := []) (As := [.long ((v_17.2.1 0 28).toInt64), .long (0 : Int64), .long (2879 : Int64)]) X I (mX4_in X.2.2.2.2.1 ev_21) lvX4_in hdX4_in ⟨Nat.le_trans (Nat.le_of_ble_eq_true rfl) hR.1, Nat.le_trans (Nat.le_of_ble_eq_true rfl) hR.2⟩ rfl hl.1 rfl (Nat.le_of_ble_eq_true rfl) rfl dX4_taxiRead_53 (fun H locs cells slots I => ?_)
      refine lv_if_eq (tgt := 73) hx hb dX4_taxiRead_56 (by decide) (fun c_56 => ?_) (fun c_56 => ?_)
      · have hf := ip c_56 hf
        exact wX4_taxiRead_73 hR X N _ _ _ _ _ _ _ _ _ I (lv_sub hl [3, 2, 1, 0] rfl) hf
      · have hf := im c_56 hf
        refine lv_aload_n hx hb dX4_taxiRead_59 rfl (lv_at hl 3 rfl) ?_
        refine tw_get X I 28 (v := .int (v_17.2.1 0 28)) (by decide) q2715 rfl dX4_taxiRead_60 ?_
        refine lv_iload_n hx hb dX4_taxiRead_63 rfl (lv_at hl 0 rfl) ?_
        refine lv_icmp_gt (tgt := 73) hx hb dX4_taxiRead_64 (by decide) (fun c_64 => ?_) (fun c_64 => ?_)
        · have hf := ip c_64 hf
          exact wX4_taxiRead_73 hR X N _ _ _ _ _ _ _ _ _ I (lv_sub hl [3, 2, 1, 0] rfl) hf
        · have hf := im c_64 hf
          refine lv_aload_n hx hb dX4_taxiRead_67 rfl (lv_at hl 3 rfl) ?_
          refine lv_iconst (v := 4) hx hb dX4_taxiRead_68 (by decide) ?_
          obtain ⟨v_23, ev_23, hf⟩ := ob hf
          refine tw_V (some (.int v_23.1)) (rs := [.int v_23.1]) (rest := []) (As := [.int (4 : Int32)]) X I (mX4_wrongs X.2.2.2.2.1 ev_23) lvX4_wrongs hdX4_wrongs ⟨Nat.le_trans (Nat.le_of_ble_eq_true rfl) hR.1, Nat.le_trans (Nat.le_of_ble_eq_true rfl) hR.2⟩ rfl hl.1 rfl (Nat.le_of_ble_eq_true rfl) rfl dX4_taxiRead_69 (fun H locs cells slots I => ?_)
          refine lv_pop hx hb dX4_taxiRead_72 rfl ?_
          exact wX4_taxiRead_73 hR X N _ _ _ _ _ _ _ _ _ I (lv_sub hl [3, 2, 1, 0] rfl) hf
theorem mX4_taxiRead {E : EV} {l : Launch} {h : Nat} {S : St} {N : Nat} {σ : TS} {res : TS} (hE : EK E) (hf : fX4_taxiRead N σ = some res) : CM E l yX4_taxiRead (ws_ yX4_taxiRead cX4_taxiRead 6 none) 4 84 [.ref h] (twS h σ S) none (twS h res S) := by
  refine CM.of hE (by decide) rfl rfl (Nat.le_of_ble_eq_true rfl) ?_
  intro p e s m below meth c X I ls hl
  exact wX4_taxiRead_0 ⟨Nat.le_refl _, Nat.le_refl _⟩ X N _ _ _ _ _ _ I hl hf
/-! ruleHere()I -/
theorem lvX4_ruleHere : GoodIn lw_all (wsV RX4 221 RX4 yX4_ruleHere (ws_ yX4_ruleHere cX4_ruleHere 1 (some .int))) := lw_V q2957 q2959 qs65 q120 q2960
theorem hdX4_ruleHere : yX4_ruleHere.cls = RX4 ∧ yX4_ruleHere.cls ≠ "java/lang/invoke/MethodHandle" ∧ yX4_ruleHere.cls ≠ "java/lang/invoke/VarHandle" ∧ (parseMethodDescriptor yX4_ruleHere.desc).map (fun d => d.parameters.length) = some 0 := by decide +kernel
theorem wX4_ruleHere_0 {E : EV} {l : Launch} {p : Program} {e : Env} {s : State} {m : MethodId} {args : Array Value} {below : List Frame} {meth : Method} {c : Code} {R : Room} {h : Nat} {S : St} {σ : TS} {res : Int32} (hR : 2 ≤ R.frames ∧ 42 ≤ R.locals) (X : MX E p s m args meth c cX4_ruleHere 1 (some .int) RX4 "ruleHere") : ∀ (H : Heap) (locs : List Loc) (cells slots : Nat) (ls : Array Slot), WI E R s (twS h σ S) H locs cells slots → lv_has ls 1 [(0, .ref h)] → fX4_ruleHere σ = some res → W p l e R s m args below meth c H locs cells slots (MQ below (Qd E R.cells R.slots (some (.int res)) (twS h σ S)) args s R.cells R.slots (fr E)) (F0 m 0 ls []) := by
  intro  H locs cells slots ls I hl hf
  obtain ⟨⟨hx, hb, hml, hown, hts⟩, -⟩ := id X
  unfold fX4_ruleHere at hf
  refine lv_aload_n hx hb dX4_ruleHere_0 rfl (lv_at hl 0 rfl) ?_
  refine lv_ldc2 (v := 453701) hx hb hown (hts _ q2961) dX4_ruleHere_1 ?_
  obtain ⟨v_1, ev_1, hf⟩ := ob hf
  refine tw_V (some (.int v_1)) (rs := [.int v_1]) (rest := []) (As := [.long (453701 : Int64)]) X I (mX4_isWord X.2.2.2.2.1 ev_1) lvX4_isWord hdX4_isWord ⟨Nat.le_trans (Nat.le_of_ble_eq_true rfl) hR.1, Nat.le_trans (Nat.le_of_ble_eq_true rfl) hR.2⟩ rfl hl.1 rfl (Nat.le_of_ble_eq_true rfl) rfl dX4_ruleHere_4 (fun H locs cells slots I => ?_)
  refine lv_if_eq (tgt := 12) hx hb dX4_ruleHere_7 (by decide) (fun c_7 => ?_) (fun c_7 => ?_)
  · have hf := ip c_7 hf
    refine lv_aload_n hx hb dX4_ruleHere_12 rfl (lv_at hl 0 rfl) ?_
    refine lv_ldc2 (v := 2582454) hx hb hown (hts _ q2962) dX4_ruleHere_13 ?_
    obtain ⟨v_3, ev_3, hf⟩ := ob hf
    refine tw_V (some (.int v_3)) (rs := [.int v_3]) (rest := []) (As := [.long (2582454 : Int64)]) X I (mX4_isWord X.2.2.2.2.1 ev_3) lvX4_isWord hdX4_isWord ⟨Nat.le_trans (Nat.le_of_ble_eq_true rfl) hR.1, Nat.le_trans (Nat.le_of_ble_eq_true rfl) hR.2⟩ rfl hl.1 rfl (Nat.le_of_ble_eq_true rfl) rfl dX4_ruleHere_16 (fun H locs cells slots I => ?_)
    refine lv_if_eq (tgt := 24) hx hb dX4_ruleHere_19 (by decide) (fun c_19 => ?_) (fun c_19 => ?_)
    · have hf := ip c_19 hf
      refine lv_aload_n hx hb dX4_ruleHere_24 rfl (lv_at hl 0 rfl) ?_
      refine lv_ldc2 (v := 8094240) hx hb hown (hts _ q2963) dX4_ruleHere_25 ?_
      obtain ⟨v_5, ev_5, hf⟩ := ob hf
      refine tw_V (some (.int v_5)) (rs := [.int v_5]) (rest := []) (As := [.long (8094240 : Int64)]) X I (mX4_isWord X.2.2.2.2.1 ev_5) lvX4_isWord hdX4_isWord ⟨Nat.le_trans (Nat.le_of_ble_eq_true rfl) hR.1, Nat.le_trans (Nat.le_of_ble_eq_true rfl) hR.2⟩ rfl hl.1 rfl (Nat.le_of_ble_eq_true rfl) rfl dX4_ruleHere_28 (fun H locs cells slots I => ?_)
      refine lv_if_eq (tgt := 36) hx hb dX4_ruleHere_31 (by decide) (fun c_31 => ?_) (fun c_31 => ?_)
      · have hf := ip c_31 hf
        refine lv_aload_n hx hb dX4_ruleHere_36 rfl (lv_at hl 0 rfl) ?_
        refine lv_ldc2 (v := 168044941553) hx hb hown (hts _ q2964) dX4_ruleHere_37 ?_
        obtain ⟨v_7, ev_7, hf⟩ := ob hf
        refine tw_V (some (.int v_7)) (rs := [.int v_7]) (rest := []) (As := [.long (168044941553 : Int64)]) X I (mX4_isWord X.2.2.2.2.1 ev_7) lvX4_isWord hdX4_isWord ⟨Nat.le_trans (Nat.le_of_ble_eq_true rfl) hR.1, Nat.le_trans (Nat.le_of_ble_eq_true rfl) hR.2⟩ rfl hl.1 rfl (Nat.le_of_ble_eq_true rfl) rfl dX4_ruleHere_40 (fun H locs cells slots I => ?_)
        refine lv_if_eq (tgt := 48) hx hb dX4_ruleHere_43 (by decide) (fun c_43 => ?_) (fun c_43 => ?_)
        · have hf := ip c_43 hf
          refine lv_aload_n hx hb dX4_ruleHere_48 rfl (lv_at hl 0 rfl) ?_
          refine lv_ldc2 (v := 4514) hx hb hown (hts _ q2965) dX4_ruleHere_49 ?_
          obtain ⟨v_9, ev_9, hf⟩ := ob hf
          refine tw_V (some (.int v_9)) (rs := [.int v_9]) (rest := []) (As := [.long (4514 : Int64)]) X I (mX4_isWord X.2.2.2.2.1 ev_9) lvX4_isWord hdX4_isWord ⟨Nat.le_trans (Nat.le_of_ble_eq_true rfl) hR.1, Nat.le_trans (Nat.le_of_ble_eq_true rfl) hR.2⟩ rfl hl.1 rfl (Nat.le_of_ble_eq_true rfl) rfl dX4_ruleHere_52 (fun H locs cells slots I => ?_)
          refine lv_if_eq (tgt := 60) hx hb dX4_ruleHere_55 (by decide) (fun c_55 => ?_) (fun c_55 => ?_)
          · have hf := ip c_55 hf
            refine lv_aload_n hx hb dX4_ruleHere_60 rfl (lv_at hl 0 rfl) ?_
            refine lv_ldc2 (v := 10497998) hx hb hown (hts _ q2966) dX4_ruleHere_61 ?_
            obtain ⟨v_11, ev_11, hf⟩ := ob hf
            refine tw_V (some (.int v_11)) (rs := [.int v_11]) (rest := []) (As := [.long (10497998 : Int64)]) X I (mX4_isWord X.2.2.2.2.1 ev_11) lvX4_isWord hdX4_isWord ⟨Nat.le_trans (Nat.le_of_ble_eq_true rfl) hR.1, Nat.le_trans (Nat.le_of_ble_eq_true rfl) hR.2⟩ rfl hl.1 rfl (Nat.le_of_ble_eq_true rfl) rfl dX4_ruleHere_64 (fun H locs cells slots I => ?_)
            refine lv_if_eq (tgt := 72) hx hb dX4_ruleHere_67 (by decide) (fun c_67 => ?_) (fun c_67 => ?_)
            · have hf := ip c_67 hf
              refine lv_aload_n hx hb dX4_ruleHere_72 rfl (lv_at hl 0 rfl) ?_
              refine lv_ldc2 (v := 358472) hx hb hown (hts _ q2967) dX4_ruleHere_73 ?_
              obtain ⟨v_13, ev_13, hf⟩ := ob hf
              refine tw_V (some (.int v_13)) (rs := [.int v_13]) (rest := []) (As := [.long (358472 : Int64)]) X I (mX4_isWord X.2.2.2.2.1 ev_13) lvX4_isWord hdX4_isWord ⟨Nat.le_trans (Nat.le_of_ble_eq_true rfl) hR.1, Nat.le_trans (Nat.le_of_ble_eq_true rfl) hR.2⟩ rfl hl.1 rfl (Nat.le_of_ble_eq_true rfl) rfl dX4_ruleHere_76 (fun H locs cells slots I => ?_)
              refine lv_if_eq (tgt := 87) hx hb dX4_ruleHere_79 (by decide) (fun c_79 => ?_) (fun c_79 => ?_)
              · have hf := ip c_79 hf
                refine lv_iconst (v := (-1)) hx hb dX4_ruleHere_87 (by decide) ?_
                cases os hf
                exact r_iret X I dX4_ruleHere_88
              · have hf := im c_79 hf
                refine lv_bipush (v := 6) hx hb dX4_ruleHere_82 (by decide) ?_
                refine lv_goto (tgt := 88) hx hb dX4_ruleHere_84 (by decide) ?_
                cases os hf
                exact r_iret X I dX4_ruleHere_88
            · have hf := im c_67 hf
              refine lv_iconst (v := 5) hx hb dX4_ruleHere_70 (by decide) ?_
              cases os hf
              exact r_iret X I dX4_ruleHere_71
          · have hf := im c_55 hf
            refine lv_iconst (v := 4) hx hb dX4_ruleHere_58 (by decide) ?_
            cases os hf
            exact r_iret X I dX4_ruleHere_59
        · have hf := im c_43 hf
          refine lv_iconst (v := 3) hx hb dX4_ruleHere_46 (by decide) ?_
          cases os hf
          exact r_iret X I dX4_ruleHere_47
      · have hf := im c_31 hf
        refine lv_iconst (v := 2) hx hb dX4_ruleHere_34 (by decide) ?_
        cases os hf
        exact r_iret X I dX4_ruleHere_35
    · have hf := im c_19 hf
      refine lv_iconst (v := 1) hx hb dX4_ruleHere_22 (by decide) ?_
      cases os hf
      exact r_iret X I dX4_ruleHere_23
  · have hf := im c_7 hf
    refine lv_iconst (v := 0) hx hb dX4_ruleHere_10 (by decide) ?_
    cases os hf
    exact r_iret X I dX4_ruleHere_11
theorem mX4_ruleHere {E : EV} {l : Launch} {h : Nat} {S : St} {σ : TS} {res : Int32} (hE : EK E) (hf : fX4_ruleHere σ = some res) : CM E l yX4_ruleHere (ws_ yX4_ruleHere cX4_ruleHere 1 (some .int)) 2 42 [.ref h] (twS h σ S) (some (.int res)) (twS h σ S) := by
  refine CM.of hE (by decide) rfl rfl (Nat.le_of_ble_eq_true rfl) ?_
  intro p e s m below meth c X I ls hl
  exact wX4_ruleHere_0 ⟨Nat.le_refl _, Nat.le_refl _⟩ X  _ _ _ _ _ I hl hf
/-! least(I)I -/
theorem lvX4_least : GoodIn lw_all (va_wsS RX4 225 yX4_least (ws_ yX4_least cX4_least 1 (some .int))) := lw_S q2968 q2969 q120 q2970
theorem hdX4_least : yX4_least.cls ≠ "java/lang/invoke/MethodHandle" ∧ yX4_least.cls ≠ "java/lang/invoke/VarHandle" ∧ (parseMethodDescriptor yX4_least.desc).map (fun d => d.parameters.length) = some 1 := by decide +kernel
theorem wX4_least_0 {E : EV} {l : Launch} {p : Program} {e : Env} {s : State} {m : MethodId} {args : Array Value} {below : List Frame} {meth : Method} {c : Code} {R : Room} {σ : St} {res : Int32} (hR : 0 ≤ R.frames ∧ 0 ≤ R.locals) (X : MX E p s m args meth c cX4_least 1 (some .int) RX4 "least") : ∀ (x0 : Int32) (H : Heap) (locs : List Loc) (cells slots : Nat) (ls : Array Slot), WI E R s σ H locs cells slots → lv_has ls 1 [(0, .int x0)] → fX4_least x0 = some res → W p l e R s m args below meth c H locs cells slots (MQ below (Qd E R.cells R.slots (some (.int res)) σ) args s R.cells R.slots (fr E)) (F0 m 0 ls []) := by
  intro x0 H locs cells slots ls I hl hf
  obtain ⟨⟨hx, hb, hml, hown, hts⟩, -⟩ := id X
  unfold fX4_least at hf
  refine lv_iload_n hx hb dX4_least_0 rfl (lv_at hl 0 rfl) ?_
  refine lv_iconst (v := 5) hx hb dX4_least_1 (by decide) ?_
  refine lv_icmp_eq (tgt := 11) hx hb dX4_least_2 (by decide) (fun c_2 => ?_) (fun c_2 => ?_)
  · have hf := ip c_2 hf
    refine lv_iconst (v := 1) hx hb dX4_least_11 (by decide) ?_
    refine lv_goto (tgt := 16) hx hb dX4_least_12 (by decide) ?_
    cases os hf
    exact r_iret X I dX4_least_16
  · have hf := im c_2 hf
    refine lv_iload_n hx hb dX4_least_5 rfl (lv_at hl 0 rfl) ?_
    refine lv_bipush (v := 6) hx hb dX4_least_6 (by decide) ?_
    refine lv_icmp_ne (tgt := 15) hx hb dX4_least_8 (by decide) (fun c_8 => ?_) (fun c_8 => ?_)
    · have hf := im c_8 hf
      refine lv_iconst (v := 0) hx hb dX4_least_15 (by decide) ?_
      cases os hf
      exact r_iret X I dX4_least_16
    · have hf := ip c_8 hf
      refine lv_iconst (v := 1) hx hb dX4_least_11 (by decide) ?_
      refine lv_goto (tgt := 16) hx hb dX4_least_12 (by decide) ?_
      cases os hf
      exact r_iret X I dX4_least_16
theorem mX4_least {E : EV} {l : Launch} {σ : St} {x0 : Int32} {res : Int32} (hE : EK E) (hf : fX4_least x0 = some res) : CM E l yX4_least (ws_ yX4_least cX4_least 1 (some .int)) 0 0 [.int x0] σ (some (.int res)) σ := by
  refine CM.of hE (by decide) rfl rfl (Nat.le_of_ble_eq_true rfl) ?_
  intro p e s m below meth c X I ls hl
  exact wX4_least_0 ⟨Nat.le_refl _, Nat.le_refl _⟩ X _ _ _ _ _ _ I hl hf
/-! most(I)I -/
theorem lvX4_most : GoodIn lw_all (va_wsS RX4 228 yX4_most (ws_ yX4_most cX4_most 1 (some .int))) := lw_S q2971 q2972 q120 q2973
theorem hdX4_most : yX4_most.cls ≠ "java/lang/invoke/MethodHandle" ∧ yX4_most.cls ≠ "java/lang/invoke/VarHandle" ∧ (parseMethodDescriptor yX4_most.desc).map (fun d => d.parameters.length) = some 1 := by decide +kernel
theorem wX4_most_0 {E : EV} {l : Launch} {p : Program} {e : Env} {s : State} {m : MethodId} {args : Array Value} {below : List Frame} {meth : Method} {c : Code} {R : Room} {σ : St} {res : Int32} (hR : 0 ≤ R.frames ∧ 0 ≤ R.locals) (X : MX E p s m args meth c cX4_most 1 (some .int) RX4 "most") : ∀ (x0 : Int32) (H : Heap) (locs : List Loc) (cells slots : Nat) (ls : Array Slot), WI E R s σ H locs cells slots → lv_has ls 1 [(0, .int x0)] → fX4_most x0 = some res → W p l e R s m args below meth c H locs cells slots (MQ below (Qd E R.cells R.slots (some (.int res)) σ) args s R.cells R.slots (fr E)) (F0 m 0 ls []) := by
  intro x0 H locs cells slots ls I hl hf
  obtain ⟨⟨hx, hb, hml, hown, hts⟩, -⟩ := id X
  unfold fX4_most at hf
  refine lv_iload_n hx hb dX4_most_0 rfl (lv_at hl 0 rfl) ?_
  by_cases c_1_0 : x0 = 0
  · have hf := ip c_1_0 hf
    refine lv_tableIn (off := 43) (tgt := 44) hx hb dX4_most_1 (by rw [c_1_0]; decide) (by rw [c_1_0]; decide) (by rw [c_1_0]; rfl) (by decide) ?_
    refine lv_bipush (v := 60) hx hb dX4_most_44 (by decide) ?_
    cases os hf
    exact r_iret X I dX4_most_46
  · have hf := im c_1_0 hf
    by_cases c_1_1 : x0 = 1
    · have hf := ip c_1_1 hf
      refine lv_tableIn (off := 46) (tgt := 47) hx hb dX4_most_1 (by rw [c_1_1]; decide) (by rw [c_1_1]; decide) (by rw [c_1_1]; rfl) (by decide) ?_
      refine lv_bipush (v := 9) hx hb dX4_most_47 (by decide) ?_
      cases os hf
      exact r_iret X I dX4_most_49
    · have hf := im c_1_1 hf
      by_cases c_1_2 : x0 = 2
      · have hf := ip c_1_2 hf
        refine lv_tableIn (off := 49) (tgt := 50) hx hb dX4_most_1 (by rw [c_1_2]; decide) (by rw [c_1_2]; decide) (by rw [c_1_2]; rfl) (by decide) ?_
        refine lv_bipush (v := 60) hx hb dX4_most_50 (by decide) ?_
        cases os hf
        exact r_iret X I dX4_most_52
      · have hf := im c_1_2 hf
        by_cases c_1_3 : x0 = 3
        · have hf := ip c_1_3 hf
          refine lv_tableIn (off := 52) (tgt := 53) hx hb dX4_most_1 (by rw [c_1_3]; decide) (by rw [c_1_3]; decide) (by rw [c_1_3]; rfl) (by decide) ?_
          refine lv_bipush (v := 30) hx hb dX4_most_53 (by decide) ?_
          cases os hf
          exact r_iret X I dX4_most_55
        · have hf := im c_1_3 hf
          by_cases c_1_4 : x0 = 4
          · have hf := ip c_1_4 hf
            refine lv_tableIn (off := 55) (tgt := 56) hx hb dX4_most_1 (by rw [c_1_4]; decide) (by rw [c_1_4]; decide) (by rw [c_1_4]; rfl) (by decide) ?_
            refine lv_sipush (v := 9999) hx hb dX4_most_56 (by decide) ?_
            cases os hf
            exact r_iret X I dX4_most_59
          · have hf := im c_1_4 hf
            by_cases c_1_5 : x0 = 5
            · have hf := ip c_1_5 hf
              refine lv_tableIn (off := 59) (tgt := 60) hx hb dX4_most_1 (by rw [c_1_5]; decide) (by rw [c_1_5]; decide) (by rw [c_1_5]; rfl) (by decide) ?_
              refine lv_sipush (v := 999) hx hb dX4_most_60 (by decide) ?_
              cases os hf
              exact r_iret X I dX4_most_63
            · have hf := im c_1_5 hf
              by_cases c_1_6 : x0 = 6
              · have hf := ip c_1_6 hf
                refine lv_tableIn (off := 63) (tgt := 64) hx hb dX4_most_1 (by rw [c_1_6]; decide) (by rw [c_1_6]; decide) (by rw [c_1_6]; rfl) (by decide) ?_
                refine lv_bipush (v := 99) hx hb dX4_most_64 (by decide) ?_
                cases os hf
                exact r_iret X I dX4_most_66
              · have hf := im c_1_6 hf
                refine lv_tableOut (tgt := 67) hx hb dX4_most_1 (by exact sw_out 0 6 (fun k h1 h2 => by rcases (show k = 0 ∨ k = 1 ∨ k = 2 ∨ k = 3 ∨ k = 4 ∨ k = 5 ∨ k = 6 by omega) with rfl | rfl | rfl | rfl | rfl | rfl | rfl; exact c_1_0; exact c_1_1; exact c_1_2; exact c_1_3; exact c_1_4; exact c_1_5; exact c_1_6)) (by decide) ?_
                refine lv_bipush (v := 90) hx hb dX4_most_67 (by decide) ?_
                cases os hf
                exact r_iret X I dX4_most_69
theorem mX4_most {E : EV} {l : Launch} {σ : St} {x0 : Int32} {res : Int32} (hE : EK E) (hf : fX4_most x0 = some res) : CM E l yX4_most (ws_ yX4_most cX4_most 1 (some .int)) 0 0 [.int x0] σ (some (.int res)) σ := by
  refine CM.of hE (by decide) rfl rfl (Nat.le_of_ble_eq_true rfl) ?_
  intro p e s m below meth c X I ls hl
  exact wX4_most_0 ⟨Nat.le_refl _, Nat.le_refl _⟩ X _ _ _ _ _ _ I hl hf
/-! ruleRead()V -/
theorem lvX4_ruleRead : GoodIn lw_all (wsV RX4 250 RX4 yX4_ruleRead (ws_ yX4_ruleRead cX4_ruleRead 3 none)) := lw_V q2953 q2955 qs64 q120 q2956
theorem hdX4_ruleRead : yX4_ruleRead.cls = RX4 ∧ yX4_ruleRead.cls ≠ "java/lang/invoke/MethodHandle" ∧ yX4_ruleRead.cls ≠ "java/lang/invoke/VarHandle" ∧ (parseMethodDescriptor yX4_ruleRead.desc).map (fun d => d.parameters.length) = some 0 := by decide +kernel
theorem wX4_ruleRead_0 {E : EV} {l : Launch} {p : Program} {e : Env} {s : State} {m : MethodId} {args : Array Value} {below : List Frame} {meth : Method} {c : Code} {R : Room} {h : Nat} {S : St} {res : TS} (hR : 4 ≤ R.frames ∧ 84 ≤ R.locals) (X : MX E p s m args meth c cX4_ruleRead 3 none RX4 "ruleRead") (N : Nat) : ∀ (σ : TS) (H : Heap) (locs : List Loc) (cells slots : Nat) (ls : Array Slot), WI E R s (twS h σ S) H locs cells slots → lv_has ls 3 [(0, .ref h)] → fX4_ruleRead N σ = some res → W p l e R s m args below meth c H locs cells slots (MQ below (Qd E R.cells R.slots none (twS h res S)) args s R.cells R.slots (fr E)) (F0 m 0 ls []) := by
  intro σ H locs cells slots ls I hl hf
  obtain ⟨⟨hx, hb, hml, hown, hts⟩, -⟩ := id X
  unfold fX4_ruleRead at hf
  refine lv_aload_n hx hb dX4_ruleRead_0 rfl (lv_at hl 0 rfl) ?_
  obtain ⟨v_1, ev_1, hf⟩ := ob hf
  refine tw_V (some (.int v_1)) (rs := [.int v_1]) (rest := []) (As := []) X I (mX4_ruleHere X.2.2.2.2.1 ev_1) lvX4_ruleHere hdX4_ruleHere ⟨Nat.le_trans (Nat.le_of_ble_eq_true rfl) hR.1, Nat.le_trans (Nat.le_of_ble_eq_true rfl) hR.2⟩ rfl hl.1 rfl (Nat.le_of_ble_eq_true rfl) rfl dX4_ruleRead_1 (fun H locs cells slots I => ?_)
  refine lv_istore_n (lv' := [(1, .int v_1), (0, .ref h)]) hx hb dX4_ruleRead_4 rfl hl (by decide) rfl (fun ls hl => ?_)
  refine lv_iload_n hx hb dX4_ruleRead_5 rfl (lv_at hl 0 rfl) ?_
  refine lv_iconst (v := (-1)) hx hb dX4_ruleRead_6 (by decide) ?_
  refine lv_icmp_ne (tgt := 17) hx hb dX4_ruleRead_7 (by decide) (fun c_7 => ?_) (fun c_7 => ?_)
  · have hf := im c_7 hf
    refine lv_aload_n hx hb dX4_ruleRead_17 rfl (lv_at hl 1 rfl) ?_
    obtain ⟨σ_4, eσ_4, hf⟩ := ob hf
    refine tw_V none (rs := []) (rest := []) (As := []) X I (mX4_next X.2.2.2.2.1 eσ_4) lvX4_next hdX4_next ⟨Nat.le_trans (Nat.le_of_ble_eq_true rfl) hR.1, Nat.le_trans (Nat.le_of_ble_eq_true rfl) hR.2⟩ rfl hl.1 rfl (Nat.le_of_ble_eq_true rfl) rfl dX4_ruleRead_18 (fun H locs cells slots I => ?_)
    refine lv_aload_n hx hb dX4_ruleRead_21 rfl (lv_at hl 1 rfl) ?_
    refine lv_iload_n hx hb dX4_ruleRead_22 rfl (lv_at hl 0 rfl) ?_
    obtain ⟨v_5, ev_5, hf⟩ := ob hf
    refine tw_S (some (.int v_5)) (rs := [.int v_5, .ref h]) (rest := [.ref h]) (As := [.int v_1]) X I (mX4_least X.2.2.2.2.1 ev_5) lvX4_least hdX4_least ⟨Nat.le_trans (Nat.le_of_ble_eq_true rfl) hR.1, Nat.le_trans (Nat.le_of_ble_eq_true rfl) hR.2⟩ rfl hl.1 rfl (Nat.le_of_ble_eq_true rfl) rfl dX4_ruleRead_23 (fun H locs cells slots I => ?_)
    refine lv_iload_n hx hb dX4_ruleRead_26 rfl (lv_at hl 0 rfl) ?_
    obtain ⟨v_7, ev_7, hf⟩ := ob hf
    refine tw_S (some (.int v_7)) (rs := [.int v_7, .int v_5, .ref h]) (rest := [.int v_5, .ref h]) (As := [.int v_1]) X I (mX4_most X.2.2.2.2.1 ev_7) lvX4_most hdX4_most ⟨Nat.le_trans (Nat.le_of_ble_eq_true rfl) hR.1, Nat.le_trans (Nat.le_of_ble_eq_true rfl) hR.2⟩ rfl hl.1 rfl (Nat.le_of_ble_eq_true rfl) rfl dX4_ruleRead_27 (fun H locs cells slots I => ?_)
    obtain ⟨v_9, ev_9, hf⟩ := ob hf
    refine tw_V (some (.int v_9.1)) (rs := [.int v_9.1]) (rest := []) (As := [.int v_5, .int v_7]) X I (mX4_number X.2.2.2.2.1 ev_9) lvX4_number hdX4_number ⟨Nat.le_trans (Nat.le_of_ble_eq_true rfl) hR.1, Nat.le_trans (Nat.le_of_ble_eq_true rfl) hR.2⟩ rfl hl.1 rfl (Nat.le_of_ble_eq_true rfl) rfl dX4_ruleRead_30 (fun H locs cells slots I => ?_)
    refine lv_istore_n (lv' := [(2, .int v_9.1), (1, .int v_1), (0, .ref h)]) hx hb dX4_ruleRead_33 rfl hl (by decide) rfl (fun ls hl => ?_)
    refine lv_aload_n hx hb dX4_ruleRead_34 rfl (lv_at hl 2 rfl) ?_
    obtain ⟨v_11, ev_11, hf⟩ := ob hf
    refine tw_V (some (.int v_11)) (rs := [.int v_11]) (rest := []) (As := []) X I (mX4_isGood X.2.2.2.2.1 ev_11) lvX4_isGood hdX4_isGood ⟨Nat.le_trans (Nat.le_of_ble_eq_true rfl) hR.1, Nat.le_trans (Nat.le_of_ble_eq_true rfl) hR.2⟩ rfl hl.1 rfl (Nat.le_of_ble_eq_true rfl) rfl dX4_ruleRead_35 (fun H locs cells slots I => ?_)
    refine lv_if_eq (tgt := 50) hx hb dX4_ruleRead_38 (by decide) (fun c_38 => ?_) (fun c_38 => ?_)
    · have hf := ip c_38 hf
      cases os hf
      exact r_vret X I dX4_ruleRead_50
    · have hf := im c_38 hf
      refine lv_aload_n hx hb dX4_ruleRead_41 rfl (lv_at hl 2 rfl) ?_
      refine tw_get X I 2 (v := .ref (h + 2)) (by decide) q2689 rfl dX4_ruleRead_42 ?_
      refine lv_iconst (v := 3) hx hb dX4_ruleRead_45 (by decide) ?_
      refine lv_iload_n hx hb dX4_ruleRead_46 rfl (lv_at hl 1 rfl) ?_
      refine lv_iadd hx hb dX4_ruleRead_47 ?_
      refine lv_iload_n hx hb dX4_ruleRead_48 rfl (lv_at hl 0 rfl) ?_
      obtain ⟨σ_13, eσ_13, hf⟩ := ob hf
      refine tw_ast X I 2 (by decide) (by decide) (by decide) eσ_13 dX4_ruleRead_49 (fun H locs I => ?_)
      cases os hf
      exact r_vret X I dX4_ruleRead_50
  · have hf := ip c_7 hf
    refine lv_aload_n hx hb dX4_ruleRead_10 rfl (lv_at hl 1 rfl) ?_
    refine lv_iconst (v := 1) hx hb dX4_ruleRead_11 (by decide) ?_
    obtain ⟨v_14, ev_14, hf⟩ := ob hf
    refine tw_V (some (.int v_14.1)) (rs := [.int v_14.1]) (rest := []) (As := [.int (1 : Int32)]) X I (mX4_wrongs X.2.2.2.2.1 ev_14) lvX4_wrongs hdX4_wrongs ⟨Nat.le_trans (Nat.le_of_ble_eq_true rfl) hR.1, Nat.le_trans (Nat.le_of_ble_eq_true rfl) hR.2⟩ rfl hl.1 rfl (Nat.le_of_ble_eq_true rfl) rfl dX4_ruleRead_12 (fun H locs cells slots I => ?_)
    refine lv_pop hx hb dX4_ruleRead_15 rfl ?_
    cases os hf
    exact r_vret X I dX4_ruleRead_16
theorem mX4_ruleRead {E : EV} {l : Launch} {h : Nat} {S : St} {N : Nat} {σ : TS} {res : TS} (hE : EK E) (hf : fX4_ruleRead N σ = some res) : CM E l yX4_ruleRead (ws_ yX4_ruleRead cX4_ruleRead 3 none) 4 84 [.ref h] (twS h σ S) none (twS h res S) := by
  refine CM.of hE (by decide) rfl rfl (Nat.le_of_ble_eq_true rfl) ?_
  intro p e s m below meth c X I ls hl
  exact wX4_ruleRead_0 ⟨Nat.le_refl _, Nat.le_refl _⟩ X N _ _ _ _ _ _ I hl hf
/-! clauseRead()V -/
theorem lvX4_clauseRead : GoodIn lw_all (wsV RX4 265 RX4 yX4_clauseRead (ws_ yX4_clauseRead cX4_clauseRead 3 none)) := lw_V q2935 q2937 qs61 q120 q2938
theorem hdX4_clauseRead : yX4_clauseRead.cls = RX4 ∧ yX4_clauseRead.cls ≠ "java/lang/invoke/MethodHandle" ∧ yX4_clauseRead.cls ≠ "java/lang/invoke/VarHandle" ∧ (parseMethodDescriptor yX4_clauseRead.desc).map (fun d => d.parameters.length) = some 0 := by decide +kernel
theorem wX4_clauseRead_185 {E : EV} {l : Launch} {p : Program} {e : Env} {s : State} {m : MethodId} {args : Array Value} {below : List Frame} {meth : Method} {c : Code} {R : Room} {h : Nat} {S : St} {res : TS} (hR : 5 ≤ R.frames ∧ 109 ≤ R.locals) (X : MX E p s m args meth c cX4_clauseRead 3 none RX4 "clauseRead") (N : Nat) : ∀ (σ : TS) (H : Heap) (locs : List Loc) (cells slots : Nat) (ls : Array Slot), WI E R s (twS h σ S) H locs cells slots → lv_has ls 3 [(0, .ref h)] → fX4_clauseRead_185 N σ = some res → W p l e R s m args below meth c H locs cells slots (MQ below (Qd E R.cells R.slots none (twS h res S)) args s R.cells R.slots (fr E)) (F0 m 185 ls []) := by
  intro σ H locs cells slots ls I hl hf
  obtain ⟨⟨hx, hb, hml, hown, hts⟩, -⟩ := id X
  unfold fX4_clauseRead_185 at hf
  refine lv_aload_n hx hb dX4_clauseRead_185 rfl (lv_at hl 0 rfl) ?_
  refine lv_bipush (v := 59) hx hb dX4_clauseRead_186 (by decide) ?_
  obtain ⟨σ_2, eσ_2, hf⟩ := ob hf
  refine tw_V none (rs := []) (rest := []) (As := [.int (59 : Int32)]) X I (mX4_must X.2.2.2.2.1 eσ_2) lvX4_must hdX4_must ⟨Nat.le_trans (Nat.le_of_ble_eq_true rfl) hR.1, Nat.le_trans (Nat.le_of_ble_eq_true rfl) hR.2⟩ rfl hl.1 rfl (Nat.le_of_ble_eq_true rfl) rfl dX4_clauseRead_188 (fun H locs cells slots I => ?_)
  cases os hf
  exact r_vret X I dX4_clauseRead_191
theorem wX4_clauseRead_98 {E : EV} {l : Launch} {p : Program} {e : Env} {s : State} {m : MethodId} {args : Array Value} {below : List Frame} {meth : Method} {c : Code} {R : Room} {h : Nat} {S : St} {res : TS} (hR : 5 ≤ R.frames ∧ 109 ≤ R.locals) (X : MX E p s m args meth c cX4_clauseRead 3 none RX4 "clauseRead") (N : Nat) : ∀ (x2 : Int32) (σ : TS) (H : Heap) (locs : List Loc) (cells slots : Nat) (ls : Array Slot), WI E R s (twS h σ S) H locs cells slots → lv_has ls 3 [(0, .ref h), (2, .int x2)] → fX4_clauseRead_98 N x2 σ = some res → W p l e R s m args below meth c H locs cells slots (MQ below (Qd E R.cells R.slots none (twS h res S)) args s R.cells R.slots (fr E)) (F0 m 98 ls []) := by
  intro x2 σ H locs cells slots ls I hl hf
  obtain ⟨⟨hx, hb, hml, hown, hts⟩, -⟩ := id X
  unfold fX4_clauseRead_98 at hf
  refine lv_aload_n hx hb dX4_clauseRead_98 rfl (lv_at hl 0 rfl) ?_
  obtain ⟨v_3, ev_3, hf⟩ := ob hf
  refine tw_V (some (.int v_3)) (rs := [.int v_3]) (rest := []) (As := []) X I (mX4_isGood X.2.2.2.2.1 ev_3) lvX4_isGood hdX4_isGood ⟨Nat.le_trans (Nat.le_of_ble_eq_true rfl) hR.1, Nat.le_trans (Nat.le_of_ble_eq_true rfl) hR.2⟩ rfl hl.1 rfl (Nat.le_of_ble_eq_true rfl) rfl dX4_clauseRead_99 (fun H locs cells slots I => ?_)
  refine lv_if_eq (tgt := 112) hx hb dX4_clauseRead_102 (by decide) (fun c_102 => ?_) (fun c_102 => ?_)
  · have hf := ip c_102 hf
    refine lv_goto (tgt := 185) hx hb dX4_clauseRead_112 (by decide) ?_
    exact wX4_clauseRead_185 hR X N _ _ _ _ _ _ I (lv_sub hl [0] rfl) hf
  · have hf := im c_102 hf
    refine lv_aload_n hx hb dX4_clauseRead_105 rfl (lv_at hl 0 rfl) ?_
    refine tw_get X I 2 (v := .ref (h + 2)) (by decide) q2689 rfl dX4_clauseRead_106 ?_
    refine lv_iconst (v := 2) hx hb dX4_clauseRead_109 (by decide) ?_
    refine lv_iload_n hx hb dX4_clauseRead_110 rfl (lv_at hl 1 rfl) ?_
    obtain ⟨σ_5, eσ_5, hf⟩ := ob hf
    refine tw_ast X I 2 (by decide) (by decide) (by decide) eσ_5 dX4_clauseRead_111 (fun H locs I => ?_)
    refine lv_goto (tgt := 185) hx hb dX4_clauseRead_112 (by decide) ?_
    exact wX4_clauseRead_185 hR X N _ _ _ _ _ _ I (lv_sub hl [0] rfl) hf
theorem wX4_clauseRead_41 {E : EV} {l : Launch} {p : Program} {e : Env} {s : State} {m : MethodId} {args : Array Value} {below : List Frame} {meth : Method} {c : Code} {R : Room} {h : Nat} {S : St} {res : TS} (hR : 5 ≤ R.frames ∧ 109 ≤ R.locals) (X : MX E p s m args meth c cX4_clauseRead 3 none RX4 "clauseRead") (N : Nat) : ∀ (σ : TS) (H : Heap) (locs : List Loc) (cells slots : Nat) (ls : Array Slot), WI E R s (twS h σ S) H locs cells slots → lv_has ls 3 [(0, .ref h)] → fX4_clauseRead_41 N σ = some res → W p l e R s m args below meth c H locs cells slots (MQ below (Qd E R.cells R.slots none (twS h res S)) args s R.cells R.slots (fr E)) (F0 m 41 ls []) := by
  intro σ H locs cells slots ls I hl hf
  obtain ⟨⟨hx, hb, hml, hown, hts⟩, -⟩ := id X
  unfold fX4_clauseRead_41 at hf
  refine lv_aload_n hx hb dX4_clauseRead_41 rfl (lv_at hl 0 rfl) ?_
  refine lv_ldc2 (v := 395046) hx hb hown (hts _ q2944) dX4_clauseRead_42 ?_
  obtain ⟨v_6, ev_6, hf⟩ := ob hf
  refine tw_V (some (.int v_6.1)) (rs := [.int v_6.1]) (rest := []) (As := [.long (395046 : Int64)]) X I (mX4_passes X.2.2.2.2.1 ev_6) lvX4_passes hdX4_passes ⟨Nat.le_trans (Nat.le_of_ble_eq_true rfl) hR.1, Nat.le_trans (Nat.le_of_ble_eq_true rfl) hR.2⟩ rfl hl.1 rfl (Nat.le_of_ble_eq_true rfl) rfl dX4_clauseRead_45 (fun H locs cells slots I => ?_)
  refine lv_if_eq (tgt := 185) hx hb dX4_clauseRead_48 (by decide) (fun c_48 => ?_) (fun c_48 => ?_)
  · have hf := ip c_48 hf
    exact wX4_clauseRead_185 hR X N _ _ _ _ _ _ I (lv_sub hl [0] rfl) hf
  · have hf := im c_48 hf
    refine lv_aload_n hx hb dX4_clauseRead_51 rfl (lv_at hl 0 rfl) ?_
    obtain ⟨σ_9, eσ_9, hf⟩ := ob hf
    refine tw_V none (rs := []) (rest := []) (As := []) X I (mX4_taxiRead X.2.2.2.2.1 eσ_9) lvX4_taxiRead hdX4_taxiRead ⟨Nat.le_trans (Nat.le_of_ble_eq_true rfl) hR.1, Nat.le_trans (Nat.le_of_ble_eq_true rfl) hR.2⟩ rfl hl.1 rfl (Nat.le_of_ble_eq_true rfl) rfl dX4_clauseRead_52 (fun H locs cells slots I => ?_)
    refine lv_goto (tgt := 185) hx hb dX4_clauseRead_55 (by decide) ?_
    exact wX4_clauseRead_185 hR X N _ _ _ _ _ _ I (lv_sub hl [0] rfl) hf
theorem wX4_clauseRead_0 {E : EV} {l : Launch} {p : Program} {e : Env} {s : State} {m : MethodId} {args : Array Value} {below : List Frame} {meth : Method} {c : Code} {R : Room} {h : Nat} {S : St} {res : TS} (hR : 5 ≤ R.frames ∧ 109 ≤ R.locals) (X : MX E p s m args meth c cX4_clauseRead 3 none RX4 "clauseRead") (N : Nat) : ∀ (σ : TS) (H : Heap) (locs : List Loc) (cells slots : Nat) (ls : Array Slot), WI E R s (twS h σ S) H locs cells slots → lv_has ls 3 [(0, .ref h)] → fX4_clauseRead N σ = some res → W p l e R s m args below meth c H locs cells slots (MQ below (Qd E R.cells R.slots none (twS h res S)) args s R.cells R.slots (fr E)) (F0 m 0 ls []) := by
  intro σ H locs cells slots ls I hl hf
  obtain ⟨⟨hx, hb, hml, hown, hts⟩, -⟩ := id X
  unfold fX4_clauseRead at hf
  refine lv_aload_n hx hb dX4_clauseRead_0 rfl (lv_at hl 0 rfl) ?_
  refine lv_ldc2 (v := 365260) hx hb hown (hts _ q2939) dX4_clauseRead_1 ?_
  obtain ⟨v_10, ev_10, hf⟩ := ob hf
  refine tw_V (some (.int v_10.1)) (rs := [.int v_10.1]) (rest := []) (As := [.long (365260 : Int64)]) X I (mX4_passes X.2.2.2.2.1 ev_10) lvX4_passes hdX4_passes ⟨Nat.le_trans (Nat.le_of_ble_eq_true rfl) hR.1, Nat.le_trans (Nat.le_of_ble_eq_true rfl) hR.2⟩ rfl hl.1 rfl (Nat.le_of_ble_eq_true rfl) rfl dX4_clauseRead_4 (fun H locs cells slots I => ?_)
  refine lv_if_eq (tgt := 17) hx hb dX4_clauseRead_7 (by decide) (fun c_7 => ?_) (fun c_7 => ?_)
  · have hf := ip c_7 hf
    refine lv_aload_n hx hb dX4_clauseRead_17 rfl (lv_at hl 0 rfl) ?_
    refine lv_ldc2 (v := 395046) hx hb hown (hts _ q2944) dX4_clauseRead_18 ?_
    obtain ⟨v_12, ev_12, hf⟩ := ob hf
    refine tw_V (some (.int v_12)) (rs := [.int v_12]) (rest := []) (As := [.long (395046 : Int64)]) X I (mX4_isWord X.2.2.2.2.1 ev_12) lvX4_isWord hdX4_isWord ⟨Nat.le_trans (Nat.le_of_ble_eq_true rfl) hR.1, Nat.le_trans (Nat.le_of_ble_eq_true rfl) hR.2⟩ rfl hl.1 rfl (Nat.le_of_ble_eq_true rfl) rfl dX4_clauseRead_21 (fun H locs cells slots I => ?_)
    refine lv_if_eq (tgt := 58) hx hb dX4_clauseRead_24 (by decide) (fun c_24 => ?_) (fun c_24 => ?_)
    · have hf := ip c_24 hf
      refine lv_aload_n hx hb dX4_clauseRead_58 rfl (lv_at hl 0 rfl) ?_
      refine lv_ldc2 (v := 287870604) hx hb hown (hts _ q2950) dX4_clauseRead_59 ?_
      obtain ⟨v_14, ev_14, hf⟩ := ob hf
      refine tw_V (some (.int v_14.1)) (rs := [.int v_14.1]) (rest := []) (As := [.long (287870604 : Int64)]) X I (mX4_passes X.2.2.2.2.1 ev_14) lvX4_passes hdX4_passes ⟨Nat.le_trans (Nat.le_of_ble_eq_true rfl) hR.1, Nat.le_trans (Nat.le_of_ble_eq_true rfl) hR.2⟩ rfl hl.1 rfl (Nat.le_of_ble_eq_true rfl) rfl dX4_clauseRead_62 (fun H locs cells slots I => ?_)
      refine lv_if_eq (tgt := 115) hx hb dX4_clauseRead_65 (by decide) (fun c_65 => ?_) (fun c_65 => ?_)
      · have hf := ip c_65 hf
        refine lv_aload_n hx hb dX4_clauseRead_115 rfl (lv_at hl 0 rfl) ?_
        refine lv_ldc2 (v := 45602731721) hx hb hown (hts _ q2951) dX4_clauseRead_116 ?_
        obtain ⟨v_16, ev_16, hf⟩ := ob hf
        refine tw_V (some (.int v_16.1)) (rs := [.int v_16.1]) (rest := []) (As := [.long (45602731721 : Int64)]) X I (mX4_passes X.2.2.2.2.1 ev_16) lvX4_passes hdX4_passes ⟨Nat.le_trans (Nat.le_of_ble_eq_true rfl) hR.1, Nat.le_trans (Nat.le_of_ble_eq_true rfl) hR.2⟩ rfl hl.1 rfl (Nat.le_of_ble_eq_true rfl) rfl dX4_clauseRead_119 (fun H locs cells slots I => ?_)
        refine lv_if_eq (tgt := 162) hx hb dX4_clauseRead_122 (by decide) (fun c_122 => ?_) (fun c_122 => ?_)
        · have hf := ip c_122 hf
          refine lv_aload_n hx hb dX4_clauseRead_162 rfl (lv_at hl 0 rfl) ?_
          refine lv_ldc2 (v := 369932) hx hb hown (hts _ q2952) dX4_clauseRead_163 ?_
          obtain ⟨v_18, ev_18, hf⟩ := ob hf
          refine tw_V (some (.int v_18.1)) (rs := [.int v_18.1]) (rest := []) (As := [.long (369932 : Int64)]) X I (mX4_passes X.2.2.2.2.1 ev_18) lvX4_passes hdX4_passes ⟨Nat.le_trans (Nat.le_of_ble_eq_true rfl) hR.1, Nat.le_trans (Nat.le_of_ble_eq_true rfl) hR.2⟩ rfl hl.1 rfl (Nat.le_of_ble_eq_true rfl) rfl dX4_clauseRead_166 (fun H locs cells slots I => ?_)
          refine lv_if_eq (tgt := 179) hx hb dX4_clauseRead_169 (by decide) (fun c_169 => ?_) (fun c_169 => ?_)
          · have hf := ip c_169 hf
            refine lv_aload_n hx hb dX4_clauseRead_179 rfl (lv_at hl 0 rfl) ?_
            refine lv_iconst (v := 1) hx hb dX4_clauseRead_180 (by decide) ?_
            obtain ⟨v_20, ev_20, hf⟩ := ob hf
            refine tw_V (some (.int v_20.1)) (rs := [.int v_20.1]) (rest := []) (As := [.int (1 : Int32)]) X I (mX4_wrongs X.2.2.2.2.1 ev_20) lvX4_wrongs hdX4_wrongs ⟨Nat.le_trans (Nat.le_of_ble_eq_true rfl) hR.1, Nat.le_trans (Nat.le_of_ble_eq_true rfl) hR.2⟩ rfl hl.1 rfl (Nat.le_of_ble_eq_true rfl) rfl dX4_clauseRead_181 (fun H locs cells slots I => ?_)
            refine lv_pop hx hb dX4_clauseRead_184 rfl ?_
            exact wX4_clauseRead_185 hR X N _ _ _ _ _ _ I (lv_sub hl [0] rfl) hf
          · have hf := im c_169 hf
            refine lv_aload_n hx hb dX4_clauseRead_172 rfl (lv_at hl 0 rfl) ?_
            obtain ⟨σ_23, eσ_23, hf⟩ := ob hf
            refine tw_V none (rs := []) (rest := []) (As := []) X I (mX4_ruleRead X.2.2.2.2.1 eσ_23) lvX4_ruleRead hdX4_ruleRead ⟨Nat.le_trans (Nat.le_of_ble_eq_true rfl) hR.1, Nat.le_trans (Nat.le_of_ble_eq_true rfl) hR.2⟩ rfl hl.1 rfl (Nat.le_of_ble_eq_true rfl) rfl dX4_clauseRead_173 (fun H locs cells slots I => ?_)
            refine lv_goto (tgt := 185) hx hb dX4_clauseRead_176 (by decide) ?_
            exact wX4_clauseRead_185 hR X N _ _ _ _ _ _ I (lv_sub hl [0] rfl) hf
        · have hf := im c_122 hf
          refine lv_aload_n hx hb dX4_clauseRead_125 rfl (lv_at hl 0 rfl) ?_
          refine lv_iconst (v := 2) hx hb dX4_clauseRead_126 (by decide) ?_
          refine lv_iconst (v := 4) hx hb dX4_clauseRead_127 (by decide) ?_
          obtain ⟨v_24, ev_24, hf⟩ := ob hf
          refine tw_V (some (.int v_24.1)) (rs := [.int v_24.1]) (rest := []) (As := [.int (2 : Int32), .int (4 : Int32)]) X I (mX4_number X.2.2.2.2.1 ev_24) lvX4_number hdX4_number ⟨Nat.le_trans (Nat.le_of_ble_eq_true rfl) hR.1, Nat.le_trans (Nat.le_of_ble_eq_true rfl) hR.2⟩ rfl hl.1 rfl (Nat.le_of_ble_eq_true rfl) rfl dX4_clauseRead_128 (fun H locs cells slots I => ?_)
          refine lv_istore_n (lv' := [(1, .int v_24.1), (0, .ref h)]) hx hb dX4_clauseRead_131 rfl hl (by decide) rfl (fun ls hl => ?_)
          refine lv_aload_n hx hb dX4_clauseRead_132 rfl (lv_at hl 1 rfl) ?_
          refine lv_iconst (v := 0) hx hb dX4_clauseRead_133 (by decide) ?_
          refine lv_bipush (v := 90) hx hb dX4_clauseRead_134 (by decide) ?_
          obtain ⟨v_26, ev_26, hf⟩ := ob hf
          refine tw_V (some (.int v_26.1)) (rs := [.int v_26.1]) (rest := []) (As := [.int (0 : Int32), .int (90 : Int32)]) X I (mX4_number X.2.2.2.2.1 ev_26) lvX4_number hdX4_number ⟨Nat.le_trans (Nat.le_of_ble_eq_true rfl) hR.1, Nat.le_trans (Nat.le_of_ble_eq_true rfl) hR.2⟩ rfl hl.1 rfl (Nat.le_of_ble_eq_true rfl) rfl dX4_clauseRead_136 (fun H locs cells slots I => ?_)
          refine lv_istore_n (lv' := [(2, .int v_26.1), (1, .int v_24.1), (0, .ref h)]) hx hb dX4_clauseRead_139 rfl hl (by decide) rfl (fun ls hl => ?_)
          refine lv_aload_n hx hb dX4_clauseRead_140 rfl (lv_at hl 2 rfl) ?_
          obtain ⟨v_28, ev_28, hf⟩ := ob hf
          refine tw_V (some (.int v_28)) (rs := [.int v_28]) (rest := []) (As := []) X I (mX4_isGood X.2.2.2.2.1 ev_28) lvX4_isGood hdX4_isGood ⟨Nat.le_trans (Nat.le_of_ble_eq_true rfl) hR.1, Nat.le_trans (Nat.le_of_ble_eq_true rfl) hR.2⟩ rfl hl.1 rfl (Nat.le_of_ble_eq_true rfl) rfl dX4_clauseRead_141 (fun H locs cells slots I => ?_)
          refine lv_if_eq (tgt := 159) hx hb dX4_clauseRead_144 (by decide) (fun c_144 => ?_) (fun c_144 => ?_)
          · have hf := ip c_144 hf
            refine lv_goto (tgt := 185) hx hb dX4_clauseRead_159 (by decide) ?_
            exact wX4_clauseRead_185 hR X N _ _ _ _ _ _ I (lv_sub hl [2] rfl) hf
          · have hf := im c_144 hf
            refine lv_aload_n hx hb dX4_clauseRead_147 rfl (lv_at hl 2 rfl) ?_
            refine tw_get X I 2 (v := .ref (h + 2)) (by decide) q2689 rfl dX4_clauseRead_148 ?_
            refine lv_bipush (v := 10) hx hb dX4_clauseRead_151 (by decide) ?_
            refine lv_iload_n hx hb dX4_clauseRead_153 rfl (lv_at hl 1 rfl) ?_
            refine lv_iadd hx hb dX4_clauseRead_154 ?_
            refine lv_iconst (v := 2) hx hb dX4_clauseRead_155 (by decide) ?_
            refine lv_isub hx hb dX4_clauseRead_156 ?_
            refine lv_iload_n hx hb dX4_clauseRead_157 rfl (lv_at hl 0 rfl) ?_
            obtain ⟨σ_30, eσ_30, hf⟩ := ob hf
            refine tw_ast X I 2 (by decide) (by decide) (by decide) eσ_30 dX4_clauseRead_158 (fun H locs I => ?_)
            refine lv_goto (tgt := 185) hx hb dX4_clauseRead_159 (by decide) ?_
            exact wX4_clauseRead_185 hR X N _ _ _ _ _ _ I (lv_sub hl [2] rfl) hf
      · have hf := im c_65 hf
        refine lv_aload_n hx hb dX4_clauseRead_68 rfl (lv_at hl 0 rfl) ?_
        refine lv_iconst (v := 0) hx hb dX4_clauseRead_69 (by decide) ?_
        refine lv_sipush (v := 9999) hx hb dX4_clauseRead_70 (by decide) ?_
        obtain ⟨v_31, ev_31, hf⟩ := ob hf
        refine tw_V (some (.int v_31.1)) (rs := [.int v_31.1]) (rest := []) (As := [.int (0 : Int32), .int (9999 : Int32)]) X I (mX4_number X.2.2.2.2.1 ev_31) lvX4_number hdX4_number ⟨Nat.le_trans (Nat.le_of_ble_eq_true rfl) hR.1, Nat.le_trans (Nat.le_of_ble_eq_true rfl) hR.2⟩ rfl hl.1 rfl (Nat.le_of_ble_eq_true rfl) rfl dX4_clauseRead_73 (fun H locs cells slots I => ?_)
        refine lv_istore_n (lv' := [(1, .int v_31.1), (0, .ref h)]) hx hb dX4_clauseRead_76 rfl hl (by decide) rfl (fun ls hl => ?_)
        refine lv_aload_n hx hb dX4_clauseRead_77 rfl (lv_at hl 1 rfl) ?_
        refine lv_iconst (v := 0) hx hb dX4_clauseRead_78 (by decide) ?_
        refine lv_sipush (v := 999) hx hb dX4_clauseRead_79 (by decide) ?_
        obtain ⟨v_33, ev_33, hf⟩ := ob hf
        refine tw_V (some (.int v_33.1)) (rs := [.int v_33.1]) (rest := []) (As := [.int (0 : Int32), .int (999 : Int32)]) X I (mX4_number X.2.2.2.2.1 ev_33) lvX4_number hdX4_number ⟨Nat.le_trans (Nat.le_of_ble_eq_true rfl) hR.1, Nat.le_trans (Nat.le_of_ble_eq_true rfl) hR.2⟩ rfl hl.1 rfl (Nat.le_of_ble_eq_true rfl) rfl dX4_clauseRead_82 (fun H locs cells slots I => ?_)
        refine lv_istore_n (lv' := [(2, .int v_33.1), (1, .int v_31.1), (0, .ref h)]) hx hb dX4_clauseRead_85 rfl hl (by decide) rfl (fun ls hl => ?_)
        refine lv_aload_n hx hb dX4_clauseRead_86 rfl (lv_at hl 2 rfl) ?_
        obtain ⟨v_35, ev_35, hf⟩ := ob hf
        refine tw_V (some (.int v_35)) (rs := [.int v_35]) (rest := []) (As := []) X I (mX4_isGood X.2.2.2.2.1 ev_35) lvX4_isGood hdX4_isGood ⟨Nat.le_trans (Nat.le_of_ble_eq_true rfl) hR.1, Nat.le_trans (Nat.le_of_ble_eq_true rfl) hR.2⟩ rfl hl.1 rfl (Nat.le_of_ble_eq_true rfl) rfl dX4_clauseRead_87 (fun H locs cells slots I => ?_)
        refine lv_if_eq (tgt := 98) hx hb dX4_clauseRead_90 (by decide) (fun c_90 => ?_) (fun c_90 => ?_)
        · have hf := ip c_90 hf
          exact wX4_clauseRead_98 hR X N _ _ _ _ _ _ _ I (lv_sub hl [2, 0] rfl) hf
        · have hf := im c_90 hf
          refine lv_aload_n hx hb dX4_clauseRead_93 rfl (lv_at hl 2 rfl) ?_
          refine lv_iload_n hx hb dX4_clauseRead_94 rfl (lv_at hl 1 rfl) ?_
          obtain ⟨σ_37, eσ_37, hf⟩ := ol hf
          refine tw_put X I 10 (ty := .int) (by decide) (by decide) rfl q2697 rfl rfl rfl rfl eσ_37 dX4_clauseRead_95 (fun H locs I => ?_)
          exact wX4_clauseRead_98 hR X N _ _ _ _ _ _ _ I (lv_sub hl [2, 0] rfl) hf
    · have hf := im c_24 hf
      refine lv_aload_n hx hb dX4_clauseRead_27 rfl (lv_at hl 0 rfl) ?_
      refine tw_get X I 9 (v := .int (v_10.2.1 0 9)) (by decide) q2696 rfl dX4_clauseRead_28 ?_
      refine lv_iconst (v := 4) hx hb dX4_clauseRead_31 (by decide) ?_
      refine lv_icmp_ne (tgt := 41) hx hb dX4_clauseRead_32 (by decide) (fun c_32 => ?_) (fun c_32 => ?_)
      · have hf := im c_32 hf
        exact wX4_clauseRead_41 hR X N _ _ _ _ _ _ I (lv_sub hl [0] rfl) hf
      · have hf := ip c_32 hf
        refine lv_aload_n hx hb dX4_clauseRead_35 rfl (lv_at hl 0 rfl) ?_
        refine lv_iconst (v := 3) hx hb dX4_clauseRead_36 (by decide) ?_
        obtain ⟨v_38, ev_38, hf⟩ := ob hf
        refine tw_V (some (.int v_38.1)) (rs := [.int v_38.1]) (rest := []) (As := [.int (3 : Int32)]) X I (mX4_wrongs X.2.2.2.2.1 ev_38) lvX4_wrongs hdX4_wrongs ⟨Nat.le_trans (Nat.le_of_ble_eq_true rfl) hR.1, Nat.le_trans (Nat.le_of_ble_eq_true rfl) hR.2⟩ rfl hl.1 rfl (Nat.le_of_ble_eq_true rfl) rfl dX4_clauseRead_37 (fun H locs cells slots I => ?_)
        refine lv_pop hx hb dX4_clauseRead_40 rfl ?_
        exact wX4_clauseRead_41 hR X N _ _ _ _ _ _ I (lv_sub hl [0] rfl) hf
  · have hf := im c_7 hf
    refine lv_aload_n hx hb dX4_clauseRead_10 rfl (lv_at hl 0 rfl) ?_
    obtain ⟨σ_41, eσ_41, hf⟩ := ob hf
    refine tw_V none (rs := []) (rest := []) (As := []) X I (mX4_roadRead X.2.2.2.2.1 eσ_41) lvX4_roadRead hdX4_roadRead ⟨Nat.le_trans (Nat.le_of_ble_eq_true rfl) hR.1, Nat.le_trans (Nat.le_of_ble_eq_true rfl) hR.2⟩ rfl hl.1 rfl (Nat.le_of_ble_eq_true rfl) rfl dX4_clauseRead_11 (fun H locs cells slots I => ?_)
    refine lv_goto (tgt := 185) hx hb dX4_clauseRead_14 (by decide) ?_
    exact wX4_clauseRead_185 hR X N _ _ _ _ _ _ I (lv_sub hl [0] rfl) hf
theorem mX4_clauseRead {E : EV} {l : Launch} {h : Nat} {S : St} {N : Nat} {σ : TS} {res : TS} (hE : EK E) (hf : fX4_clauseRead N σ = some res) : CM E l yX4_clauseRead (ws_ yX4_clauseRead cX4_clauseRead 3 none) 5 109 [.ref h] (twS h σ S) none (twS h res S) := by
  refine CM.of hE (by decide) rfl rfl (Nat.le_of_ble_eq_true rfl) ?_
  intro p e s m below meth c X I ls hl
  exact wX4_clauseRead_0 ⟨Nat.le_refl _, Nat.le_refl _⟩ X N _ _ _ _ _ _ I hl hf
/-! load(I)I -/
theorem wX4_load_85 {E : EV} {l : Launch} {p : Program} {e : Env} {s : State} {m : MethodId} {args : Array Value} {below : List Frame} {meth : Method} {c : Code} {R : Room} {h : Nat} {S : St} {res : (Int32 × TS)} (hR : 6 ≤ R.frames ∧ 131 ≤ R.locals) (X : MX E p s m args meth c cX4_load 2 (some .int) RX4 "load") (N : Nat) : ∀ (σ : TS) (H : Heap) (locs : List Loc) (cells slots : Nat) (ls : Array Slot), WI E R s (twS h σ S) H locs cells slots → lv_has ls 2 [(0, .ref h)] → fX4_load_85 N σ = some res → W p l e R s m args below meth c H locs cells slots (MQ below (Qd E R.cells R.slots (some (.int res.1)) (twS h res.2 S)) args s R.cells R.slots (fr E)) (F0 m 85 ls []) := by
  intro σ H locs cells slots ls I hl hf
  obtain ⟨⟨hx, hb, hml, hown, hts⟩, -⟩ := id X
  unfold fX4_load_85 at hf
  refine lv_aload_n hx hb dX4_load_85 rfl (lv_at hl 0 rfl) ?_
  obtain ⟨v_1, ev_1, hf⟩ := ob hf
  refine tw_V (some (.int v_1)) (rs := [.int v_1]) (rest := []) (As := []) X I (mX4_isGood X.2.2.2.2.1 ev_1) lvX4_isGood hdX4_isGood ⟨Nat.le_trans (Nat.le_of_ble_eq_true rfl) hR.1, Nat.le_trans (Nat.le_of_ble_eq_true rfl) hR.2⟩ rfl hl.1 rfl (Nat.le_of_ble_eq_true rfl) rfl dX4_load_86 (fun H locs cells slots I => ?_)
  refine lv_if_ne (tgt := 100) hx hb dX4_load_89 (by decide) (fun c_89 => ?_) (fun c_89 => ?_)
  · have hf := im c_89 hf
    refine lv_aload_n hx hb dX4_load_100 rfl (lv_at hl 0 rfl) ?_
    obtain ⟨σ_4, eσ_4, hf⟩ := ob hf
    refine tw_V none (rs := []) (rest := []) (As := []) X I (mX4_becomes X.2.2.2.2.1 eσ_4) lvX4_becomes hdX4_becomes ⟨Nat.le_trans (Nat.le_of_ble_eq_true rfl) hR.1, Nat.le_trans (Nat.le_of_ble_eq_true rfl) hR.2⟩ rfl hl.1 rfl (Nat.le_of_ble_eq_true rfl) rfl dX4_load_101 (fun H locs cells slots I => ?_)
    refine lv_aload_n hx hb dX4_load_104 rfl (lv_at hl 0 rfl) ?_
    refine tw_get X I 17 (v := .int (σ_4.1 0 17)) (by decide) q2704 rfl dX4_load_105 ?_
    cases os hf
    exact r_iret X I dX4_load_108
  · have hf := ip c_89 hf
    refine lv_bipush (v := (-10)) hx hb dX4_load_92 (by decide) ?_
    refine lv_aload_n hx hb dX4_load_94 rfl (lv_at hl 0 rfl) ?_
    refine tw_get X I 30 (v := .int (σ.1 0 30)) (by decide) q2717 rfl dX4_load_95 ?_
    refine lv_isub hx hb dX4_load_98 ?_
    cases os hf
    exact r_iret X I dX4_load_99
theorem wX4_load_64 {E : EV} {l : Launch} {p : Program} {e : Env} {s : State} {m : MethodId} {args : Array Value} {below : List Frame} {meth : Method} {c : Code} {R : Room} {h : Nat} {S : St} {res : (Int32 × TS)} (hR : 6 ≤ R.frames ∧ 131 ≤ R.locals) (X : MX E p s m args meth c cX4_load 2 (some .int) RX4 "load") (N : Nat) : ∀ (n : Nat) (σ : TS) (H : Heap) (locs : List Loc) (cells slots : Nat) (ls : Array Slot), WI E R s (twS h σ S) H locs cells slots → lv_has ls 2 [(0, .ref h)] → fX4_load_64 N n σ = some res → W p l e R s m args below meth c H locs cells slots (MQ below (Qd E R.cells R.slots (some (.int res.1)) (twS h res.2 S)) args s R.cells R.slots (fr E)) (F0 m 64 ls []) := by
  intro n
  induction n with
  | zero => intro σ H locs cells slots ls I hl hf; exact nomatch (show none = some res from hf)
  | succ n ih =>
    intro σ H locs cells slots ls I hl hf
    obtain ⟨⟨hx, hb, hml, hown, hts⟩, -⟩ := id X
    rw [fX4_load_64.eq_2] at hf
    refine lv_aload_n hx hb dX4_load_64 rfl (lv_at hl 0 rfl) ?_
    obtain ⟨v_5, ev_5, hf⟩ := ob hf
    refine tw_V (some (.int v_5)) (rs := [.int v_5]) (rest := []) (As := []) X I (mX4_isGood X.2.2.2.2.1 ev_5) lvX4_isGood hdX4_isGood ⟨Nat.le_trans (Nat.le_of_ble_eq_true rfl) hR.1, Nat.le_trans (Nat.le_of_ble_eq_true rfl) hR.2⟩ rfl hl.1 rfl (Nat.le_of_ble_eq_true rfl) rfl dX4_load_65 (fun H locs cells slots I => ?_)
    refine lv_if_eq (tgt := 85) hx hb dX4_load_68 (by decide) (fun c_68 => ?_) (fun c_68 => ?_)
    · have hf := ip c_68 hf
      exact wX4_load_85 hR X N _ _ _ _ _ _ I (lv_sub hl [0] rfl) hf
    · have hf := im c_68 hf
      refine lv_aload_n hx hb dX4_load_71 rfl (lv_at hl 0 rfl) ?_
      refine tw_get X I 27 (v := .int (σ.1 0 27)) (by decide) q2714 rfl dX4_load_72 ?_
      refine lv_if_eq (tgt := 85) hx hb dX4_load_75 (by decide) (fun c_75 => ?_) (fun c_75 => ?_)
      · have hf := ip c_75 hf
        exact wX4_load_85 hR X N _ _ _ _ _ _ I (lv_sub hl [0] rfl) hf
      · have hf := im c_75 hf
        refine lv_aload_n hx hb dX4_load_78 rfl (lv_at hl 0 rfl) ?_
        obtain ⟨σ_8, eσ_8, hf⟩ := ob hf
        refine tw_V none (rs := []) (rest := []) (As := []) X I (mX4_clauseRead X.2.2.2.2.1 eσ_8) lvX4_clauseRead hdX4_clauseRead ⟨Nat.le_trans (Nat.le_of_ble_eq_true rfl) hR.1, Nat.le_trans (Nat.le_of_ble_eq_true rfl) hR.2⟩ rfl hl.1 rfl (Nat.le_of_ble_eq_true rfl) rfl dX4_load_79 (fun H locs cells slots I => ?_)
        refine lv_goto (tgt := 64) hx hb dX4_load_82 (by decide) ?_
        exact ih _ _ _ _ _ _ I (lv_sub hl [0] rfl) hf
theorem wX4_load_47 {E : EV} {l : Launch} {p : Program} {e : Env} {s : State} {m : MethodId} {args : Array Value} {below : List Frame} {meth : Method} {c : Code} {R : Room} {h : Nat} {S : St} {res : (Int32 × TS)} (hR : 6 ≤ R.frames ∧ 131 ≤ R.locals) (X : MX E p s m args meth c cX4_load 2 (some .int) RX4 "load") (N : Nat) : ∀ (σ : TS) (H : Heap) (locs : List Loc) (cells slots : Nat) (ls : Array Slot), WI E R s (twS h σ S) H locs cells slots → lv_has ls 2 [(0, .ref h)] → fX4_load_47 N σ = some res → W p l e R s m args below meth c H locs cells slots (MQ below (Qd E R.cells R.slots (some (.int res.1)) (twS h res.2 S)) args s R.cells R.slots (fr E)) (F0 m 47 ls []) := by
  intro σ H locs cells slots ls I hl hf
  obtain ⟨⟨hx, hb, hml, hown, hts⟩, -⟩ := id X
  unfold fX4_load_47 at hf
  refine lv_aload_n hx hb dX4_load_47 rfl (lv_at hl 0 rfl) ?_
  refine lv_aload_n hx hb dX4_load_48 rfl (lv_at hl 0 rfl) ?_
  refine lv_iconst (v := 2) hx hb dX4_load_49 (by decide) ?_
  refine lv_bipush (v := 8) hx hb dX4_load_50 (by decide) ?_
  obtain ⟨v_9, ev_9, hf⟩ := ob hf
  refine tw_V (some (.int v_9.1)) (rs := [.int v_9.1, .ref h]) (rest := [.ref h]) (As := [.int (2 : Int32), .int (8 : Int32)]) X I (mX4_number X.2.2.2.2.1 ev_9) lvX4_number hdX4_number ⟨Nat.le_trans (Nat.le_of_ble_eq_true rfl) hR.1, Nat.le_trans (Nat.le_of_ble_eq_true rfl) hR.2⟩ rfl hl.1 rfl (Nat.le_of_ble_eq_true rfl) rfl dX4_load_52 (fun H locs cells slots I => ?_)
  obtain ⟨σ_12, eσ_12, hf⟩ := ob hf
  refine tw_V none (rs := []) (rest := []) (As := [.int v_9.1]) X I (mX4_begins X.2.2.2.2.1 eσ_12) lvX4_begins hdX4_begins ⟨Nat.le_trans (Nat.le_of_ble_eq_true rfl) hR.1, Nat.le_trans (Nat.le_of_ble_eq_true rfl) hR.2⟩ rfl hl.1 rfl (Nat.le_of_ble_eq_true rfl) rfl dX4_load_55 (fun H locs cells slots I => ?_)
  refine lv_aload_n hx hb dX4_load_58 rfl (lv_at hl 0 rfl) ?_
  refine lv_bipush (v := 59) hx hb dX4_load_59 (by decide) ?_
  obtain ⟨σ_14, eσ_14, hf⟩ := ob hf
  refine tw_V none (rs := []) (rest := []) (As := [.int (59 : Int32)]) X I (mX4_must X.2.2.2.2.1 eσ_14) lvX4_must hdX4_must ⟨Nat.le_trans (Nat.le_of_ble_eq_true rfl) hR.1, Nat.le_trans (Nat.le_of_ble_eq_true rfl) hR.2⟩ rfl hl.1 rfl (Nat.le_of_ble_eq_true rfl) rfl dX4_load_61 (fun H locs cells slots I => ?_)
  exact wX4_load_64 hR X N N _ _ _ _ _ _ I (lv_sub hl [0] rfl) hf
theorem wX4_load_0 {E : EV} {l : Launch} {p : Program} {e : Env} {s : State} {m : MethodId} {args : Array Value} {below : List Frame} {meth : Method} {c : Code} {R : Room} {h : Nat} {S : St} {res : (Int32 × TS)} (hR : 6 ≤ R.frames ∧ 131 ≤ R.locals) (X : MX E p s m args meth c cX4_load 2 (some .int) RX4 "load") (N : Nat) : ∀ (x1 : Int32) (σ : TS) (H : Heap) (locs : List Loc) (cells slots : Nat) (ls : Array Slot), WI E R s (twS h σ S) H locs cells slots → lv_has ls 2 [(0, .ref h), (1, .int x1)] → fX4_load N σ x1 = some res → W p l e R s m args below meth c H locs cells slots (MQ below (Qd E R.cells R.slots (some (.int res.1)) (twS h res.2 S)) args s R.cells R.slots (fr E)) (F0 m 0 ls []) := by
  intro x1 σ H locs cells slots ls I hl hf
  obtain ⟨⟨hx, hb, hml, hown, hts⟩, -⟩ := id X
  unfold fX4_load at hf
  refine lv_aload_n hx hb dX4_load_0 rfl (lv_at hl 0 rfl) ?_
  refine lv_iconst (v := 0) hx hb dX4_load_1 (by decide) ?_
  obtain ⟨σ_15, eσ_15, hf⟩ := ol hf
  refine tw_put X I 0 (ty := .int) (by decide) (by decide) rfl q2687 rfl rfl rfl rfl eσ_15 dX4_load_2 (fun H locs I => ?_)
  refine lv_aload_n hx hb dX4_load_5 rfl (lv_at hl 0 rfl) ?_
  refine lv_iload_n hx hb dX4_load_6 rfl (lv_at hl 1 rfl) ?_
  refine lv_i2l hx hb dX4_load_7 rfl ?_
  refine lv_lconst (v := 0) hx hb dX4_load_8 (by decide) ?_
  refine lv_aload_n hx hb dX4_load_9 rfl (lv_at hl 0 rfl) ?_
  refine tw_get X I 23 (v := .int (σ_15.1 0 23)) (by decide) q2710 rfl dX4_load_10 ?_
  refine lv_i2l hx hb dX4_load_13 rfl ?_
  obtain ⟨v_16, ev_16, hf⟩ := ob hf
  refine tw_S (some (.int v_16)) (rs := [.int v_16, .ref h]) (rest := [.ref h]) (As := [.long (x1.toInt64), .long (0 : Int64), .long ((σ_15.1 0 23).toInt64)]) X I (mX4_in X.2.2.2.2.1 ev_16) lvX4_in hdX4_in ⟨Nat.le_trans (Nat.le_of_ble_eq_true rfl) hR.1, Nat.le_trans (Nat.le_of_ble_eq_true rfl) hR.2⟩ rfl hl.1 rfl (Nat.le_of_ble_eq_true rfl) rfl dX4_load_14 (fun H locs cells slots I => ?_)
  refine lv_iconst (v := 1) hx hb dX4_load_17 (by decide) ?_
  obtain ⟨v_18, ev_18, hf⟩ := ob hf
  refine tw_V (some (.int v_18.1)) (rs := [.int v_18.1]) (rest := []) (As := [.int v_16, .int (1 : Int32)]) X I (mX4_fails X.2.2.2.2.1 ev_18) lvX4_fails hdX4_fails ⟨Nat.le_trans (Nat.le_of_ble_eq_true rfl) hR.1, Nat.le_trans (Nat.le_of_ble_eq_true rfl) hR.2⟩ rfl hl.1 rfl (Nat.le_of_ble_eq_true rfl) rfl dX4_load_18 (fun H locs cells slots I => ?_)
  refine lv_if_eq (tgt := 26) hx hb dX4_load_21 (by decide) (fun c_21 => ?_) (fun c_21 => ?_)
  · have hf := ip c_21 hf
    refine lv_aload_n hx hb dX4_load_26 rfl (lv_at hl 0 rfl) ?_
    refine lv_iload_n hx hb dX4_load_27 rfl (lv_at hl 1 rfl) ?_
    obtain ⟨σ_21, eσ_21, hf⟩ := ob hf
    refine tw_V none (rs := []) (rest := []) (As := [.int x1]) X I (mX4_starts X.2.2.2.2.1 eσ_21) lvX4_starts hdX4_starts ⟨Nat.le_trans (Nat.le_of_ble_eq_true rfl) hR.1, Nat.le_trans (Nat.le_of_ble_eq_true rfl) hR.2⟩ rfl hl.1 rfl (Nat.le_of_ble_eq_true rfl) rfl dX4_load_28 (fun H locs cells slots I => ?_)
    refine lv_aload_n hx hb dX4_load_31 rfl (lv_at hl 0 rfl) ?_
    refine lv_ldc2 (v := 14123071) hx hb hown (hts _ q2906) dX4_load_32 ?_
    obtain ⟨v_22, ev_22, hf⟩ := ob hf
    refine tw_V (some (.int v_22.1)) (rs := [.int v_22.1]) (rest := []) (As := [.long (14123071 : Int64)]) X I (mX4_passes X.2.2.2.2.1 ev_22) lvX4_passes hdX4_passes ⟨Nat.le_trans (Nat.le_of_ble_eq_true rfl) hR.1, Nat.le_trans (Nat.le_of_ble_eq_true rfl) hR.2⟩ rfl hl.1 rfl (Nat.le_of_ble_eq_true rfl) rfl dX4_load_35 (fun H locs cells slots I => ?_)
    refine lv_if_ne (tgt := 47) hx hb dX4_load_38 (by decide) (fun c_38 => ?_) (fun c_38 => ?_)
    · have hf := im c_38 hf
      exact wX4_load_47 hR X N _ _ _ _ _ _ I (lv_sub hl [0] rfl) hf
    · have hf := ip c_38 hf
      refine lv_aload_n hx hb dX4_load_41 rfl (lv_at hl 0 rfl) ?_
      refine lv_iconst (v := 1) hx hb dX4_load_42 (by decide) ?_
      obtain ⟨v_24, ev_24, hf⟩ := ob hf
      refine tw_V (some (.int v_24.1)) (rs := [.int v_24.1]) (rest := []) (As := [.int (1 : Int32)]) X I (mX4_wrongs X.2.2.2.2.1 ev_24) lvX4_wrongs hdX4_wrongs ⟨Nat.le_trans (Nat.le_of_ble_eq_true rfl) hR.1, Nat.le_trans (Nat.le_of_ble_eq_true rfl) hR.2⟩ rfl hl.1 rfl (Nat.le_of_ble_eq_true rfl) rfl dX4_load_43 (fun H locs cells slots I => ?_)
      refine lv_pop hx hb dX4_load_46 rfl ?_
      exact wX4_load_47 hR X N _ _ _ _ _ _ I (lv_sub hl [0] rfl) hf
  · have hf := im c_21 hf
    refine lv_iconst (v := 0) hx hb dX4_load_24 (by decide) ?_
    cases os hf
    exact r_iret X I dX4_load_25
theorem mX4_load {E : EV} {l : Launch} {h : Nat} {S : St} {N : Nat} {σ : TS} {x1 : Int32} {res : (Int32 × TS)} (hE : EK E) (hf : fX4_load N σ x1 = some res) : CM E l yX4_load (ws_ yX4_load cX4_load 2 (some .int)) 6 131 [.ref h, .int x1] (twS h σ S) (some (.int res.1)) (twS h res.2 S) := by
  refine CM.of hE (by decide) rfl rfl (Nat.le_of_ble_eq_true rfl) ?_
  intro p e s m below meth c X I ls hl
  exact wX4_load_0 ⟨Nat.le_refl _, Nat.le_refl _⟩ X N _ _ _ _ _ _ _ I hl hf
/-! of(II)I -/
theorem lvX4_of : GoodIn lw_all (wsV RX4 274 RX4 yX4_of (ws_ yX4_of cX4_of 3 (some .int))) := lw_V q2983 q2985 qs67 q120 q2986
theorem hdX4_of : yX4_of.cls = RX4 ∧ yX4_of.cls ≠ "java/lang/invoke/MethodHandle" ∧ yX4_of.cls ≠ "java/lang/invoke/VarHandle" ∧ (parseMethodDescriptor yX4_of.desc).map (fun d => d.parameters.length) = some 2 := by decide +kernel
theorem wX4_of_0 {E : EV} {l : Launch} {p : Program} {e : Env} {s : State} {m : MethodId} {args : Array Value} {below : List Frame} {meth : Method} {c : Code} {R : Room} {h : Nat} {S : St} {σ : TS} {res : Int32} (hR : 0 ≤ R.frames ∧ 0 ≤ R.locals) (X : MX E p s m args meth c cX4_of 3 (some .int) RX4 "of") : ∀ (x1 : Int32) (x2 : Int32) (H : Heap) (locs : List Loc) (cells slots : Nat) (ls : Array Slot), WI E R s (twS h σ S) H locs cells slots → lv_has ls 3 [(0, .ref h), (1, .int x1), (2, .int x2)] → fX4_of σ x1 x2 = some res → W p l e R s m args below meth c H locs cells slots (MQ below (Qd E R.cells R.slots (some (.int res)) (twS h σ S)) args s R.cells R.slots (fr E)) (F0 m 0 ls []) := by
  intro x1 x2 H locs cells slots ls I hl hf
  obtain ⟨⟨hx, hb, hml, hown, hts⟩, -⟩ := id X
  unfold fX4_of at hf
  refine lv_aload_n hx hb dX4_of_0 rfl (lv_at hl 0 rfl) ?_
  refine tw_get X I 1 (v := .ref (h + 1)) (by decide) q2688 rfl dX4_of_1 ?_
  refine lv_sipush (v := 173) hx hb dX4_of_4 (by decide) ?_
  refine lv_bipush (v := 17) hx hb dX4_of_7 (by decide) ?_
  refine lv_iload_n hx hb dX4_of_9 rfl (lv_at hl 1 rfl) ?_
  refine lv_imul hx hb dX4_of_10 ?_
  refine lv_iadd hx hb dX4_of_11 ?_
  refine lv_iload_n hx hb dX4_of_12 rfl (lv_at hl 2 rfl) ?_
  refine lv_iadd hx hb dX4_of_13 ?_
  obtain ⟨v_1, ev_1, hf⟩ := ob hf
  refine tw_ald X I 1 (by decide) (by decide) (by decide) ev_1 dX4_of_14 ?_
  cases os hf
  exact r_iret X I dX4_of_15
theorem mX4_of {E : EV} {l : Launch} {h : Nat} {S : St} {σ : TS} {x1 : Int32} {x2 : Int32} {res : Int32} (hE : EK E) (hf : fX4_of σ x1 x2 = some res) : CM E l yX4_of (ws_ yX4_of cX4_of 3 (some .int)) 0 0 [.ref h, .int x1, .int x2] (twS h σ S) (some (.int res)) (twS h σ S) := by
  refine CM.of hE (by decide) rfl rfl (Nat.le_of_ble_eq_true rfl) ?_
  intro p e s m below meth c X I ls hl
  exact wX4_of_0 ⟨Nat.le_refl _, Nat.le_refl _⟩ X _ _ _ _ _ _ _ I hl hf
/-! ridesIn(I)I -/
theorem lvX4_ridesIn : GoodIn lw_all (wsV RX4 364 RX4 yX4_ridesIn (ws_ yX4_ridesIn cX4_ridesIn 4 (some .int))) := lw_V q2979 q2981 qs66 q120 q2982
theorem hdX4_ridesIn : yX4_ridesIn.cls = RX4 ∧ yX4_ridesIn.cls ≠ "java/lang/invoke/MethodHandle" ∧ yX4_ridesIn.cls ≠ "java/lang/invoke/VarHandle" ∧ (parseMethodDescriptor yX4_ridesIn.desc).map (fun d => d.parameters.length) = some 1 := by decide +kernel
theorem wX4_ridesIn_30 {E : EV} {l : Launch} {p : Program} {e : Env} {s : State} {m : MethodId} {args : Array Value} {below : List Frame} {meth : Method} {c : Code} {R : Room} {h : Nat} {S : St} {σ : TS} {res : Int32} (hR : 1 ≤ R.frames ∧ 22 ≤ R.locals) (X : MX E p s m args meth c cX4_ridesIn 4 (some .int) RX4 "ridesIn") (N : Nat) (r4 : Int32 → Int32 → Int32 → Option Int32) (hr4 : ∀ (x1 : Int32) (x2 : Int32) (x3 : Int32) (H : Heap) (locs : List Loc) (cells slots : Nat) (ls : Array Slot), WI E R s (twS h σ S) H locs cells slots → lv_has ls 4 [(0, .ref h), (1, .int x1), (2, .int x2), (3, .int x3)] → r4 x1 x2 x3 = some res → W p l e R s m args below meth c H locs cells slots (MQ below (Qd E R.cells R.slots (some (.int res)) (twS h σ S)) args s R.cells R.slots (fr E)) (F0 m 4 ls [])) : ∀ (x1 : Int32) (x3 : Int32) (y0 : Int32) (y1 : Int32) (H : Heap) (locs : List Loc) (cells slots : Nat) (ls : Array Slot), WI E R s (twS h σ S) H locs cells slots → lv_has ls 4 [(0, .ref h), (1, .int x1), (3, .int x3)] → fX4_ridesIn_30 N σ r4 x1 x3 y0 y1 = some res → W p l e R s m args below meth c H locs cells slots (MQ below (Qd E R.cells R.slots (some (.int res)) (twS h σ S)) args s R.cells R.slots (fr E)) (F0 m 30 ls [.int y1, .int y0]) := by
  intro x1 x3 y0 y1 H locs cells slots ls I hl hf
  obtain ⟨⟨hx, hb, hml, hown, hts⟩, -⟩ := id X
  unfold fX4_ridesIn_30 at hf
  refine lv_iadd hx hb dX4_ridesIn_30 ?_
  obtain ⟨x2_1, ex2_1, hf⟩ := ol hf
  refine nm_i ex2_1 ?_
  refine lv_istore_n (lv' := [(2, .int x2_1), (0, .ref h), (1, .int x1), (3, .int x3)]) hx hb dX4_ridesIn_31 rfl hl (by decide) rfl (fun ls hl => ?_)
  obtain ⟨x3_2, ex3_2, hf⟩ := ol hf
  refine lv_iinc (v := x3_2) (lv' := [(3, .int x3_2), (2, .int x2_1), (0, .ref h), (1, .int x1)]) hx hb dX4_ridesIn_32 hl (k := 3) rfl ex3_2 (by decide) rfl (fun ls hl => ?_)
  refine lv_goto (tgt := 4) hx hb dX4_ridesIn_35 (by decide) ?_
  exact hr4 _ _ _ _ _ _ _ _ I (lv_sub hl [2, 3, 1, 0] rfl) hf
theorem wX4_ridesIn_4 {E : EV} {l : Launch} {p : Program} {e : Env} {s : State} {m : MethodId} {args : Array Value} {below : List Frame} {meth : Method} {c : Code} {R : Room} {h : Nat} {S : St} {σ : TS} {res : Int32} (hR : 1 ≤ R.frames ∧ 22 ≤ R.locals) (X : MX E p s m args meth c cX4_ridesIn 4 (some .int) RX4 "ridesIn") (N : Nat) : ∀ (n : Nat) (x1 : Int32) (x2 : Int32) (x3 : Int32) (H : Heap) (locs : List Loc) (cells slots : Nat) (ls : Array Slot), WI E R s (twS h σ S) H locs cells slots → lv_has ls 4 [(0, .ref h), (1, .int x1), (2, .int x2), (3, .int x3)] → fX4_ridesIn_4 N σ n x1 x2 x3 = some res → W p l e R s m args below meth c H locs cells slots (MQ below (Qd E R.cells R.slots (some (.int res)) (twS h σ S)) args s R.cells R.slots (fr E)) (F0 m 4 ls []) := by
  intro n
  induction n with
  | zero => intro x1 x2 x3 H locs cells slots ls I hl hf; exact nomatch (show none = some res from hf)
  | succ n ih =>
    intro x1 x2 x3 H locs cells slots ls I hl hf
    obtain ⟨⟨hx, hb, hml, hown, hts⟩, -⟩ := id X
    rw [fX4_ridesIn_4.eq_2] at hf
    refine lv_iload_n hx hb dX4_ridesIn_4 rfl (lv_at hl 3 rfl) ?_
    refine lv_aload_n hx hb dX4_ridesIn_5 rfl (lv_at hl 0 rfl) ?_
    refine tw_get X I 1 (v := .ref (h + 1)) (by decide) q2688 rfl dX4_ridesIn_6 ?_
    refine lv_iconst (v := 1) hx hb dX4_ridesIn_9 (by decide) ?_
    obtain ⟨v_3, ev_3, hf⟩ := ob hf
    refine tw_ald X I 1 (by decide) (by decide) (by decide) ev_3 dX4_ridesIn_10 ?_
    refine lv_icmp_ge (tgt := 38) hx hb dX4_ridesIn_11 (by decide) (fun c_11 => ?_) (fun c_11 => ?_)
    · have hf := ip c_11 hf
      refine lv_iload_n hx hb dX4_ridesIn_38 rfl (lv_at hl 2 rfl) ?_
      cases os hf
      exact r_iret X I dX4_ridesIn_39
    · have hf := im c_11 hf
      refine lv_iload_n hx hb dX4_ridesIn_14 rfl (lv_at hl 2 rfl) ?_
      refine lv_aload_n hx hb dX4_ridesIn_15 rfl (lv_at hl 0 rfl) ?_
      refine lv_iload_n hx hb dX4_ridesIn_16 rfl (lv_at hl 3 rfl) ?_
      refine lv_iconst (v := 0) hx hb dX4_ridesIn_17 (by decide) ?_
      obtain ⟨v_4, ev_4, hf⟩ := ob hf
      refine tw_V (some (.int v_4)) (rs := [.int v_4, .int x2]) (rest := [.int x2]) (As := [.int x3, .int (0 : Int32)]) X I (mX4_of X.2.2.2.2.1 ev_4) lvX4_of hdX4_of ⟨Nat.le_trans (Nat.le_of_ble_eq_true rfl) hR.1, Nat.le_trans (Nat.le_of_ble_eq_true rfl) hR.2⟩ rfl hl.1 rfl (Nat.le_of_ble_eq_true rfl) rfl dX4_ridesIn_18 (fun H locs cells slots I => ?_)
      refine lv_iload_n hx hb dX4_ridesIn_21 rfl (lv_at hl 1 rfl) ?_
      refine lv_icmp_ne (tgt := 29) hx hb dX4_ridesIn_22 (by decide) (fun c_22 => ?_) (fun c_22 => ?_)
      · have hf := im c_22 hf
        refine lv_iconst (v := 0) hx hb dX4_ridesIn_29 (by decide) ?_
        exact wX4_ridesIn_30 hR X N (fX4_ridesIn_4 N σ n) ih _ _ _ _ _ _ _ _ _ I (lv_sub hl [0, 1, 3] rfl) hf
      · have hf := ip c_22 hf
        refine lv_iconst (v := 1) hx hb dX4_ridesIn_25 (by decide) ?_
        refine lv_goto (tgt := 30) hx hb dX4_ridesIn_26 (by decide) ?_
        exact wX4_ridesIn_30 hR X N (fX4_ridesIn_4 N σ n) ih _ _ _ _ _ _ _ _ _ I (lv_sub hl [0, 1, 3] rfl) hf
theorem wX4_ridesIn_0 {E : EV} {l : Launch} {p : Program} {e : Env} {s : State} {m : MethodId} {args : Array Value} {below : List Frame} {meth : Method} {c : Code} {R : Room} {h : Nat} {S : St} {σ : TS} {res : Int32} (hR : 1 ≤ R.frames ∧ 22 ≤ R.locals) (X : MX E p s m args meth c cX4_ridesIn 4 (some .int) RX4 "ridesIn") (N : Nat) : ∀ (x1 : Int32) (H : Heap) (locs : List Loc) (cells slots : Nat) (ls : Array Slot), WI E R s (twS h σ S) H locs cells slots → lv_has ls 4 [(0, .ref h), (1, .int x1)] → fX4_ridesIn N σ x1 = some res → W p l e R s m args below meth c H locs cells slots (MQ below (Qd E R.cells R.slots (some (.int res)) (twS h σ S)) args s R.cells R.slots (fr E)) (F0 m 0 ls []) := by
  intro x1 H locs cells slots ls I hl hf
  obtain ⟨⟨hx, hb, hml, hown, hts⟩, -⟩ := id X
  unfold fX4_ridesIn at hf
  refine lv_iconst (v := 0) hx hb dX4_ridesIn_0 (by decide) ?_
  refine lv_istore_n (lv' := [(2, .int (0 : Int32)), (0, .ref h), (1, .int x1)]) hx hb dX4_ridesIn_1 rfl hl (by decide) rfl (fun ls hl => ?_)
  refine lv_iconst (v := 0) hx hb dX4_ridesIn_2 (by decide) ?_
  refine lv_istore_n (lv' := [(3, .int (0 : Int32)), (2, .int (0 : Int32)), (0, .ref h), (1, .int x1)]) hx hb dX4_ridesIn_3 rfl hl (by decide) rfl (fun ls hl => ?_)
  exact wX4_ridesIn_4 hR X N N _ _ _ _ _ _ _ _ I (lv_sub hl [2, 3, 1, 0] rfl) hf
theorem mX4_ridesIn {E : EV} {l : Launch} {h : Nat} {S : St} {N : Nat} {σ : TS} {x1 : Int32} {res : Int32} (hE : EK E) (hf : fX4_ridesIn N σ x1 = some res) : CM E l yX4_ridesIn (ws_ yX4_ridesIn cX4_ridesIn 4 (some .int)) 1 22 [.ref h, .int x1] (twS h σ S) (some (.int res)) (twS h σ S) := by
  refine CM.of hE (by decide) rfl rfl (Nat.le_of_ble_eq_true rfl) ?_
  intro p e s m below meth c X I ls hl
  exact wX4_ridesIn_0 ⟨Nat.le_refl _, Nat.le_refl _⟩ X N _ _ _ _ _ _ I hl hf
/-! in2(II)I -/
theorem lvX4_in2 : GoodIn lw_all (wsV RX4 268 RX4 yX4_in2 (ws_ yX4_in2 cX4_in2 3 (some .int))) := lw_V q2991 q2993 qs69 q120 q2994
theorem hdX4_in2 : yX4_in2.cls = RX4 ∧ yX4_in2.cls ≠ "java/lang/invoke/MethodHandle" ∧ yX4_in2.cls ≠ "java/lang/invoke/VarHandle" ∧ (parseMethodDescriptor yX4_in2.desc).map (fun d => d.parameters.length) = some 2 := by decide +kernel
theorem wX4_in2_0 {E : EV} {l : Launch} {p : Program} {e : Env} {s : State} {m : MethodId} {args : Array Value} {below : List Frame} {meth : Method} {c : Code} {R : Room} {h : Nat} {S : St} {σ : TS} {res : Int32} (hR : 0 ≤ R.frames ∧ 0 ≤ R.locals) (X : MX E p s m args meth c cX4_in2 3 (some .int) RX4 "in2") : ∀ (x1 : Int32) (x2 : Int32) (H : Heap) (locs : List Loc) (cells slots : Nat) (ls : Array Slot), WI E R s (twS h σ S) H locs cells slots → lv_has ls 3 [(0, .ref h), (1, .int x1), (2, .int x2)] → fX4_in2 σ x1 x2 = some res → W p l e R s m args below meth c H locs cells slots (MQ below (Qd E R.cells R.slots (some (.int res)) (twS h σ S)) args s R.cells R.slots (fr E)) (F0 m 0 ls []) := by
  intro x1 x2 H locs cells slots ls I hl hf
  obtain ⟨⟨hx, hb, hml, hown, hts⟩, -⟩ := id X
  unfold fX4_in2 at hf
  refine lv_aload_n hx hb dX4_in2_0 rfl (lv_at hl 0 rfl) ?_
  refine tw_get X I 1 (v := .ref (h + 1)) (by decide) q2688 rfl dX4_in2_1 ?_
  refine lv_bipush (v := 13) hx hb dX4_in2_4 (by decide) ?_
  refine lv_bipush (v := 40) hx hb dX4_in2_6 (by decide) ?_
  refine lv_iload_n hx hb dX4_in2_8 rfl (lv_at hl 1 rfl) ?_
  refine lv_imul hx hb dX4_in2_9 ?_
  refine lv_iadd hx hb dX4_in2_10 ?_
  refine lv_iload_n hx hb dX4_in2_11 rfl (lv_at hl 2 rfl) ?_
  refine lv_iadd hx hb dX4_in2_12 ?_
  obtain ⟨v_1, ev_1, hf⟩ := ob hf
  refine tw_ald X I 1 (by decide) (by decide) (by decide) ev_1 dX4_in2_13 ?_
  cases os hf
  exact r_iret X I dX4_in2_14
theorem mX4_in2 {E : EV} {l : Launch} {h : Nat} {S : St} {σ : TS} {x1 : Int32} {x2 : Int32} {res : Int32} (hE : EK E) (hf : fX4_in2 σ x1 x2 = some res) : CM E l yX4_in2 (ws_ yX4_in2 cX4_in2 3 (some .int)) 0 0 [.ref h, .int x1, .int x2] (twS h σ S) (some (.int res)) (twS h σ S) := by
  refine CM.of hE (by decide) rfl rfl (Nat.le_of_ble_eq_true rfl) ?_
  intro p e s m below meth c X I ls hl
  exact wX4_in2_0 ⟨Nat.le_refl _, Nat.le_refl _⟩ X _ _ _ _ _ _ _ I hl hf
/-! sumOf(I)I -/
theorem lvX4_sumOf : GoodIn lw_all (wsV RX4 367 RX4 yX4_sumOf (ws_ yX4_sumOf cX4_sumOf 4 (some .int))) := lw_V q2987 q2989 qs68 q120 q2990
theorem hdX4_sumOf : yX4_sumOf.cls = RX4 ∧ yX4_sumOf.cls ≠ "java/lang/invoke/MethodHandle" ∧ yX4_sumOf.cls ≠ "java/lang/invoke/VarHandle" ∧ (parseMethodDescriptor yX4_sumOf.desc).map (fun d => d.parameters.length) = some 1 := by decide +kernel
theorem wX4_sumOf_4 {E : EV} {l : Launch} {p : Program} {e : Env} {s : State} {m : MethodId} {args : Array Value} {below : List Frame} {meth : Method} {c : Code} {R : Room} {h : Nat} {S : St} {σ : TS} {res : Int32} (hR : 1 ≤ R.frames ∧ 22 ≤ R.locals) (X : MX E p s m args meth c cX4_sumOf 4 (some .int) RX4 "sumOf") (N : Nat) : ∀ (n : Nat) (x1 : Int32) (x2 : Int32) (x3 : Int32) (H : Heap) (locs : List Loc) (cells slots : Nat) (ls : Array Slot), WI E R s (twS h σ S) H locs cells slots → lv_has ls 4 [(0, .ref h), (1, .int x1), (2, .int x2), (3, .int x3)] → fX4_sumOf_4 N σ n x1 x2 x3 = some res → W p l e R s m args below meth c H locs cells slots (MQ below (Qd E R.cells R.slots (some (.int res)) (twS h σ S)) args s R.cells R.slots (fr E)) (F0 m 4 ls []) := by
  intro n
  induction n with
  | zero => intro x1 x2 x3 H locs cells slots ls I hl hf; exact nomatch (show none = some res from hf)
  | succ n ih =>
    intro x1 x2 x3 H locs cells slots ls I hl hf
    obtain ⟨⟨hx, hb, hml, hown, hts⟩, -⟩ := id X
    rw [fX4_sumOf_4.eq_2] at hf
    refine lv_iload_n hx hb dX4_sumOf_4 rfl (lv_at hl 3 rfl) ?_
    refine lv_aload_n hx hb dX4_sumOf_5 rfl (lv_at hl 0 rfl) ?_
    refine tw_get X I 17 (v := .int (σ.1 0 17)) (by decide) q2704 rfl dX4_sumOf_6 ?_
    refine lv_icmp_ge (tgt := 27) hx hb dX4_sumOf_9 (by decide) (fun c_9 => ?_) (fun c_9 => ?_)
    · have hf := ip c_9 hf
      refine lv_iload_n hx hb dX4_sumOf_27 rfl (lv_at hl 2 rfl) ?_
      cases os hf
      exact r_iret X I dX4_sumOf_28
    · have hf := im c_9 hf
      refine lv_iload_n hx hb dX4_sumOf_12 rfl (lv_at hl 2 rfl) ?_
      refine lv_aload_n hx hb dX4_sumOf_13 rfl (lv_at hl 0 rfl) ?_
      refine lv_iload_n hx hb dX4_sumOf_14 rfl (lv_at hl 3 rfl) ?_
      refine lv_iload_n hx hb dX4_sumOf_15 rfl (lv_at hl 1 rfl) ?_
      obtain ⟨v_1, ev_1, hf⟩ := ob hf
      refine tw_V (some (.int v_1)) (rs := [.int v_1, .int x2]) (rest := [.int x2]) (As := [.int x3, .int x1]) X I (mX4_in2 X.2.2.2.2.1 ev_1) lvX4_in2 hdX4_in2 ⟨Nat.le_trans (Nat.le_of_ble_eq_true rfl) hR.1, Nat.le_trans (Nat.le_of_ble_eq_true rfl) hR.2⟩ rfl hl.1 rfl (Nat.le_of_ble_eq_true rfl) rfl dX4_sumOf_16 (fun H locs cells slots I => ?_)
      refine lv_iadd hx hb dX4_sumOf_19 ?_
      obtain ⟨x2_3, ex2_3, hf⟩ := ol hf
      refine nm_i ex2_3 ?_
      refine lv_istore_n (lv' := [(2, .int x2_3), (0, .ref h), (1, .int x1), (3, .int x3)]) hx hb dX4_sumOf_20 rfl hl (by decide) rfl (fun ls hl => ?_)
      obtain ⟨x3_4, ex3_4, hf⟩ := ol hf
      refine lv_iinc (v := x3_4) (lv' := [(3, .int x3_4), (2, .int x2_3), (0, .ref h), (1, .int x1)]) hx hb dX4_sumOf_21 hl (k := 3) rfl ex3_4 (by decide) rfl (fun ls hl => ?_)
      refine lv_goto (tgt := 4) hx hb dX4_sumOf_24 (by decide) ?_
      exact ih _ _ _ _ _ _ _ _ I (lv_sub hl [2, 3, 1, 0] rfl) hf
theorem wX4_sumOf_0 {E : EV} {l : Launch} {p : Program} {e : Env} {s : State} {m : MethodId} {args : Array Value} {below : List Frame} {meth : Method} {c : Code} {R : Room} {h : Nat} {S : St} {σ : TS} {res : Int32} (hR : 1 ≤ R.frames ∧ 22 ≤ R.locals) (X : MX E p s m args meth c cX4_sumOf 4 (some .int) RX4 "sumOf") (N : Nat) : ∀ (x1 : Int32) (H : Heap) (locs : List Loc) (cells slots : Nat) (ls : Array Slot), WI E R s (twS h σ S) H locs cells slots → lv_has ls 4 [(0, .ref h), (1, .int x1)] → fX4_sumOf N σ x1 = some res → W p l e R s m args below meth c H locs cells slots (MQ below (Qd E R.cells R.slots (some (.int res)) (twS h σ S)) args s R.cells R.slots (fr E)) (F0 m 0 ls []) := by
  intro x1 H locs cells slots ls I hl hf
  obtain ⟨⟨hx, hb, hml, hown, hts⟩, -⟩ := id X
  unfold fX4_sumOf at hf
  refine lv_iconst (v := 0) hx hb dX4_sumOf_0 (by decide) ?_
  refine lv_istore_n (lv' := [(2, .int (0 : Int32)), (0, .ref h), (1, .int x1)]) hx hb dX4_sumOf_1 rfl hl (by decide) rfl (fun ls hl => ?_)
  refine lv_iconst (v := 0) hx hb dX4_sumOf_2 (by decide) ?_
  refine lv_istore_n (lv' := [(3, .int (0 : Int32)), (2, .int (0 : Int32)), (0, .ref h), (1, .int x1)]) hx hb dX4_sumOf_3 rfl hl (by decide) rfl (fun ls hl => ?_)
  exact wX4_sumOf_4 hR X N N _ _ _ _ _ _ _ _ I (lv_sub hl [2, 3, 1, 0] rfl) hf
theorem mX4_sumOf {E : EV} {l : Launch} {h : Nat} {S : St} {N : Nat} {σ : TS} {x1 : Int32} {res : Int32} (hE : EK E) (hf : fX4_sumOf N σ x1 = some res) : CM E l yX4_sumOf (ws_ yX4_sumOf cX4_sumOf 4 (some .int)) 1 22 [.ref h, .int x1] (twS h σ S) (some (.int res)) (twS h σ S) := by
  refine CM.of hE (by decide) rfl rfl (Nat.le_of_ble_eq_true rfl) ?_
  intro p e s m below meth c X I ls hl
  exact wX4_sumOf_0 ⟨Nat.le_refl _, Nat.le_refl _⟩ X N _ _ _ _ _ _ I hl hf
/-! size(I)I -/
theorem wX4_size_0 {E : EV} {l : Launch} {p : Program} {e : Env} {s : State} {m : MethodId} {args : Array Value} {below : List Frame} {meth : Method} {c : Code} {R : Room} {h : Nat} {S : St} {res : (Int32 × TS)} (hR : 2 ≤ R.frames ∧ 45 ≤ R.locals) (X : MX E p s m args meth c cX4_size 2 (some .int) RX4 "size") (N : Nat) : ∀ (x1 : Int32) (σ : TS) (H : Heap) (locs : List Loc) (cells slots : Nat) (ls : Array Slot), WI E R s (twS h σ S) H locs cells slots → lv_has ls 2 [(0, .ref h), (1, .int x1)] → fX4_size N σ x1 = some res → W p l e R s m args below meth c H locs cells slots (MQ below (Qd E R.cells R.slots (some (.int res.1)) (twS h res.2 S)) args s R.cells R.slots (fr E)) (F0 m 0 ls []) := by
  intro x1 σ H locs cells slots ls I hl hf
  obtain ⟨⟨hx, hb, hml, hown, hts⟩, -⟩ := id X
  unfold fX4_size at hf
  refine lv_aload_n hx hb dX4_size_0 rfl (lv_at hl 0 rfl) ?_
  refine lv_iconst (v := 0) hx hb dX4_size_1 (by decide) ?_
  obtain ⟨σ_1, eσ_1, hf⟩ := ol hf
  refine tw_put X I 0 (ty := .int) (by decide) (by decide) rfl q2687 rfl rfl rfl rfl eσ_1 dX4_size_2 (fun H locs I => ?_)
  refine lv_aload_n hx hb dX4_size_5 rfl (lv_at hl 0 rfl) ?_
  refine lv_iload_n hx hb dX4_size_6 rfl (lv_at hl 1 rfl) ?_
  refine lv_i2l hx hb dX4_size_7 rfl ?_
  refine lv_lconst (v := 0) hx hb dX4_size_8 (by decide) ?_
  refine lv_ldc2 (v := 8) hx hb hown (hts _ q2978) dX4_size_9 ?_
  obtain ⟨v_2, ev_2, hf⟩ := ob hf
  refine tw_S (some (.int v_2)) (rs := [.int v_2, .ref h]) (rest := [.ref h]) (As := [.long (x1.toInt64), .long (0 : Int64), .long (8 : Int64)]) X I (mX4_in X.2.2.2.2.1 ev_2) lvX4_in hdX4_in ⟨Nat.le_trans (Nat.le_of_ble_eq_true rfl) hR.1, Nat.le_trans (Nat.le_of_ble_eq_true rfl) hR.2⟩ rfl hl.1 rfl (Nat.le_of_ble_eq_true rfl) rfl dX4_size_12 (fun H locs cells slots I => ?_)
  refine lv_iconst (v := 1) hx hb dX4_size_15 (by decide) ?_
  obtain ⟨v_4, ev_4, hf⟩ := ob hf
  refine tw_V (some (.int v_4.1)) (rs := [.int v_4.1]) (rest := []) (As := [.int v_2, .int (1 : Int32)]) X I (mX4_fails X.2.2.2.2.1 ev_4) lvX4_fails hdX4_fails ⟨Nat.le_trans (Nat.le_of_ble_eq_true rfl) hR.1, Nat.le_trans (Nat.le_of_ble_eq_true rfl) hR.2⟩ rfl hl.1 rfl (Nat.le_of_ble_eq_true rfl) rfl dX4_size_16 (fun H locs cells slots I => ?_)
  refine lv_if_eq (tgt := 24) hx hb dX4_size_19 (by decide) (fun c_19 => ?_) (fun c_19 => ?_)
  · have hf := ip c_19 hf
    refine lv_iload_n hx hb dX4_size_24 rfl (lv_at hl 1 rfl) ?_
    by_cases c_25_0 : x1 = 0
    · have hf := ip c_25_0 hf
      refine lv_tableIn (off := 47) (tgt := 72) hx hb dX4_size_25 (by rw [c_25_0]; decide) (by rw [c_25_0]; decide) (by rw [c_25_0]; rfl) (by decide) ?_
      refine lv_aload_n hx hb dX4_size_72 rfl (lv_at hl 0 rfl) ?_
      refine tw_get X I 15 (v := .int (v_4.2.1 0 15)) (by decide) q2702 rfl dX4_size_73 ?_
      cases os hf
      exact r_iret X I dX4_size_76
    · have hf := im c_25_0 hf
      by_cases c_25_1 : x1 = 1
      · have hf := ip c_25_1 hf
        refine lv_tableIn (off := 52) (tgt := 77) hx hb dX4_size_25 (by rw [c_25_1]; decide) (by rw [c_25_1]; decide) (by rw [c_25_1]; rfl) (by decide) ?_
        refine lv_aload_n hx hb dX4_size_77 rfl (lv_at hl 0 rfl) ?_
        refine tw_get X I 16 (v := .int (v_4.2.1 0 16)) (by decide) q2703 rfl dX4_size_78 ?_
        cases os hf
        exact r_iret X I dX4_size_81
      · have hf := im c_25_1 hf
        by_cases c_25_2 : x1 = 2
        · have hf := ip c_25_2 hf
          refine lv_tableIn (off := 57) (tgt := 82) hx hb dX4_size_25 (by rw [c_25_2]; decide) (by rw [c_25_2]; decide) (by rw [c_25_2]; rfl) (by decide) ?_
          refine lv_aload_n hx hb dX4_size_82 rfl (lv_at hl 0 rfl) ?_
          refine tw_get X I 17 (v := .int (v_4.2.1 0 17)) (by decide) q2704 rfl dX4_size_83 ?_
          cases os hf
          exact r_iret X I dX4_size_86
        · have hf := im c_25_2 hf
          by_cases c_25_3 : x1 = 3
          · have hf := ip c_25_3 hf
            refine lv_tableIn (off := 62) (tgt := 87) hx hb dX4_size_25 (by rw [c_25_3]; decide) (by rw [c_25_3]; decide) (by rw [c_25_3]; rfl) (by decide) ?_
            refine lv_aload_n hx hb dX4_size_87 rfl (lv_at hl 0 rfl) ?_
            refine tw_get X I 1 (v := .ref (h + 1)) (by decide) q2688 rfl dX4_size_88 ?_
            refine lv_iconst (v := 1) hx hb dX4_size_91 (by decide) ?_
            obtain ⟨v_6, ev_6, hf⟩ := ob hf
            refine tw_ald X I 1 (by decide) (by decide) (by decide) ev_6 dX4_size_92 ?_
            cases os hf
            exact r_iret X I dX4_size_93
          · have hf := im c_25_3 hf
            by_cases c_25_4 : x1 = 4
            · have hf := ip c_25_4 hf
              refine lv_tableIn (off := 69) (tgt := 94) hx hb dX4_size_25 (by rw [c_25_4]; decide) (by rw [c_25_4]; decide) (by rw [c_25_4]; rfl) (by decide) ?_
              refine lv_aload_n hx hb dX4_size_94 rfl (lv_at hl 0 rfl) ?_
              refine tw_get X I 1 (v := .ref (h + 1)) (by decide) q2688 rfl dX4_size_95 ?_
              refine lv_iconst (v := 0) hx hb dX4_size_98 (by decide) ?_
              obtain ⟨v_7, ev_7, hf⟩ := ob hf
              refine tw_ald X I 1 (by decide) (by decide) (by decide) ev_7 dX4_size_99 ?_
              cases os hf
              exact r_iret X I dX4_size_100
            · have hf := im c_25_4 hf
              by_cases c_25_5 : x1 = 5
              · have hf := ip c_25_5 hf
                refine lv_tableIn (off := 76) (tgt := 101) hx hb dX4_size_25 (by rw [c_25_5]; decide) (by rw [c_25_5]; decide) (by rw [c_25_5]; rfl) (by decide) ?_
                refine lv_aload_n hx hb dX4_size_101 rfl (lv_at hl 0 rfl) ?_
                refine lv_iconst (v := 0) hx hb dX4_size_102 (by decide) ?_
                obtain ⟨v_8, ev_8, hf⟩ := ob hf
                refine tw_V (some (.int v_8)) (rs := [.int v_8]) (rest := []) (As := [.int (0 : Int32)]) X I (mX4_ridesIn X.2.2.2.2.1 ev_8) lvX4_ridesIn hdX4_ridesIn ⟨Nat.le_trans (Nat.le_of_ble_eq_true rfl) hR.1, Nat.le_trans (Nat.le_of_ble_eq_true rfl) hR.2⟩ rfl hl.1 rfl (Nat.le_of_ble_eq_true rfl) rfl dX4_size_103 (fun H locs cells slots I => ?_)
                cases os hf
                exact r_iret X I dX4_size_106
              · have hf := im c_25_5 hf
                by_cases c_25_6 : x1 = 6
                · have hf := ip c_25_6 hf
                  refine lv_tableIn (off := 82) (tgt := 107) hx hb dX4_size_25 (by rw [c_25_6]; decide) (by rw [c_25_6]; decide) (by rw [c_25_6]; rfl) (by decide) ?_
                  refine lv_aload_n hx hb dX4_size_107 rfl (lv_at hl 0 rfl) ?_
                  refine lv_bipush (v := 11) hx hb dX4_size_108 (by decide) ?_
                  obtain ⟨v_10, ev_10, hf⟩ := ob hf
                  refine tw_V (some (.int v_10)) (rs := [.int v_10]) (rest := []) (As := [.int (11 : Int32)]) X I (mX4_sumOf X.2.2.2.2.1 ev_10) lvX4_sumOf hdX4_sumOf ⟨Nat.le_trans (Nat.le_of_ble_eq_true rfl) hR.1, Nat.le_trans (Nat.le_of_ble_eq_true rfl) hR.2⟩ rfl hl.1 rfl (Nat.le_of_ble_eq_true rfl) rfl dX4_size_110 (fun H locs cells slots I => ?_)
                  cases os hf
                  exact r_iret X I dX4_size_113
                · have hf := im c_25_6 hf
                  by_cases c_25_7 : x1 = 7
                  · have hf := ip c_25_7 hf
                    refine lv_tableIn (off := 89) (tgt := 114) hx hb dX4_size_25 (by rw [c_25_7]; decide) (by rw [c_25_7]; decide) (by rw [c_25_7]; rfl) (by decide) ?_
                    refine lv_aload_n hx hb dX4_size_114 rfl (lv_at hl 0 rfl) ?_
                    refine tw_get X I 18 (v := .int (v_4.2.1 0 18)) (by decide) q2705 rfl dX4_size_115 ?_
                    cases os hf
                    exact r_iret X I dX4_size_118
                  · have hf := im c_25_7 hf
                    refine lv_tableOut (tgt := 119) hx hb dX4_size_25 (by exact sw_out 0 7 (fun k h1 h2 => by rcases (show k = 0 ∨ k = 1 ∨ k = 2 ∨ k = 3 ∨ k = 4 ∨ k = 5 ∨ k = 6 ∨ k = 7 by omega) with rfl | rfl | rfl | rfl | rfl | rfl | rfl | rfl; exact c_25_0; exact c_25_1; exact c_25_2; exact c_25_3; exact c_25_4; exact c_25_5; exact c_25_6; exact c_25_7)) (by decide) ?_
                    refine lv_aload_n hx hb dX4_size_119 rfl (lv_at hl 0 rfl) ?_
                    refine tw_get X I 1 (v := .ref (h + 1)) (by decide) q2688 rfl dX4_size_120 ?_
                    refine lv_iconst (v := 2) hx hb dX4_size_123 (by decide) ?_
                    obtain ⟨v_12, ev_12, hf⟩ := ob hf
                    refine tw_ald X I 1 (by decide) (by decide) (by decide) ev_12 dX4_size_124 ?_
                    cases os hf
                    exact r_iret X I dX4_size_125
  · have hf := im c_19 hf
    refine lv_iconst (v := 0) hx hb dX4_size_22 (by decide) ?_
    cases os hf
    exact r_iret X I dX4_size_23
theorem mX4_size {E : EV} {l : Launch} {h : Nat} {S : St} {N : Nat} {σ : TS} {x1 : Int32} {res : (Int32 × TS)} (hE : EK E) (hf : fX4_size N σ x1 = some res) : CM E l yX4_size (ws_ yX4_size cX4_size 2 (some .int)) 2 45 [.ref h, .int x1] (twS h σ S) (some (.int res.1)) (twS h res.2 S) := by
  refine CM.of hE (by decide) rfl rfl (Nat.le_of_ble_eq_true rfl) ?_
  intro p e s m below meth c X I ls hl
  exact wX4_size_0 ⟨Nat.le_refl _, Nat.le_refl _⟩ X N _ _ _ _ _ _ _ I hl hf
/-! ruled(I)I -/
theorem lvX4_ruled : GoodIn lw_all (wsV RX4 292 RX4 yX4_ruled (ws_ yX4_ruled cX4_ruled 2 (some .int))) := lw_V q3000 q3002 qs70 q120 q3003
theorem hdX4_ruled : yX4_ruled.cls = RX4 ∧ yX4_ruled.cls ≠ "java/lang/invoke/MethodHandle" ∧ yX4_ruled.cls ≠ "java/lang/invoke/VarHandle" ∧ (parseMethodDescriptor yX4_ruled.desc).map (fun d => d.parameters.length) = some 1 := by decide +kernel
theorem wX4_ruled_0 {E : EV} {l : Launch} {p : Program} {e : Env} {s : State} {m : MethodId} {args : Array Value} {below : List Frame} {meth : Method} {c : Code} {R : Room} {h : Nat} {S : St} {σ : TS} {res : Int32} (hR : 0 ≤ R.frames ∧ 0 ≤ R.locals) (X : MX E p s m args meth c cX4_ruled 2 (some .int) RX4 "ruled") : ∀ (x1 : Int32) (H : Heap) (locs : List Loc) (cells slots : Nat) (ls : Array Slot), WI E R s (twS h σ S) H locs cells slots → lv_has ls 2 [(0, .ref h), (1, .int x1)] → fX4_ruled σ x1 = some res → W p l e R s m args below meth c H locs cells slots (MQ below (Qd E R.cells R.slots (some (.int res)) (twS h σ S)) args s R.cells R.slots (fr E)) (F0 m 0 ls []) := by
  intro x1 H locs cells slots ls I hl hf
  obtain ⟨⟨hx, hb, hml, hown, hts⟩, -⟩ := id X
  unfold fX4_ruled at hf
  refine lv_aload_n hx hb dX4_ruled_0 rfl (lv_at hl 0 rfl) ?_
  refine tw_get X I 1 (v := .ref (h + 1)) (by decide) q2688 rfl dX4_ruled_1 ?_
  refine lv_iconst (v := 3) hx hb dX4_ruled_4 (by decide) ?_
  refine lv_iload_n hx hb dX4_ruled_5 rfl (lv_at hl 1 rfl) ?_
  refine lv_iadd hx hb dX4_ruled_6 ?_
  obtain ⟨v_1, ev_1, hf⟩ := ob hf
  refine tw_ald X I 1 (by decide) (by decide) (by decide) ev_1 dX4_ruled_7 ?_
  cases os hf
  exact r_iret X I dX4_ruled_8
theorem mX4_ruled {E : EV} {l : Launch} {h : Nat} {S : St} {σ : TS} {x1 : Int32} {res : Int32} (hE : EK E) (hf : fX4_ruled σ x1 = some res) : CM E l yX4_ruled (ws_ yX4_ruled cX4_ruled 2 (some .int)) 0 0 [.ref h, .int x1] (twS h σ S) (some (.int res)) (twS h σ S) := by
  refine CM.of hE (by decide) rfl rfl (Nat.le_of_ble_eq_true rfl) ?_
  intro p e s m below meth c X I ls hl
  exact wX4_ruled_0 ⟨Nat.le_refl _, Nat.le_refl _⟩ X _ _ _ _ _ _ I hl hf
/-! rule(I)I -/
theorem wX4_rule_0 {E : EV} {l : Launch} {p : Program} {e : Env} {s : State} {m : MethodId} {args : Array Value} {below : List Frame} {meth : Method} {c : Code} {R : Room} {h : Nat} {S : St} {res : (Int32 × TS)} (hR : 1 ≤ R.frames ∧ 25 ≤ R.locals) (X : MX E p s m args meth c cX4_rule 2 (some .int) RX4 "rule") : ∀ (x1 : Int32) (σ : TS) (H : Heap) (locs : List Loc) (cells slots : Nat) (ls : Array Slot), WI E R s (twS h σ S) H locs cells slots → lv_has ls 2 [(0, .ref h), (1, .int x1)] → fX4_rule σ x1 = some res → W p l e R s m args below meth c H locs cells slots (MQ below (Qd E R.cells R.slots (some (.int res.1)) (twS h res.2 S)) args s R.cells R.slots (fr E)) (F0 m 0 ls []) := by
  intro x1 σ H locs cells slots ls I hl hf
  obtain ⟨⟨hx, hb, hml, hown, hts⟩, -⟩ := id X
  unfold fX4_rule at hf
  refine lv_aload_n hx hb dX4_rule_0 rfl (lv_at hl 0 rfl) ?_
  refine lv_iconst (v := 0) hx hb dX4_rule_1 (by decide) ?_
  obtain ⟨σ_1, eσ_1, hf⟩ := ol hf
  refine tw_put X I 0 (ty := .int) (by decide) (by decide) rfl q2687 rfl rfl rfl rfl eσ_1 dX4_rule_2 (fun H locs I => ?_)
  refine lv_aload_n hx hb dX4_rule_5 rfl (lv_at hl 0 rfl) ?_
  refine lv_iload_n hx hb dX4_rule_6 rfl (lv_at hl 1 rfl) ?_
  refine lv_i2l hx hb dX4_rule_7 rfl ?_
  refine lv_lconst (v := 0) hx hb dX4_rule_8 (by decide) ?_
  refine lv_ldc2 (v := 9) hx hb hown (hts _ q2999) dX4_rule_9 ?_
  obtain ⟨v_2, ev_2, hf⟩ := ob hf
  refine tw_S (some (.int v_2)) (rs := [.int v_2, .ref h]) (rest := [.ref h]) (As := [.long (x1.toInt64), .long (0 : Int64), .long (9 : Int64)]) X I (mX4_in X.2.2.2.2.1 ev_2) lvX4_in hdX4_in ⟨Nat.le_trans (Nat.le_of_ble_eq_true rfl) hR.1, Nat.le_trans (Nat.le_of_ble_eq_true rfl) hR.2⟩ rfl hl.1 rfl (Nat.le_of_ble_eq_true rfl) rfl dX4_rule_12 (fun H locs cells slots I => ?_)
  refine lv_iconst (v := 1) hx hb dX4_rule_15 (by decide) ?_
  obtain ⟨v_4, ev_4, hf⟩ := ob hf
  refine tw_V (some (.int v_4.1)) (rs := [.int v_4.1]) (rest := []) (As := [.int v_2, .int (1 : Int32)]) X I (mX4_fails X.2.2.2.2.1 ev_4) lvX4_fails hdX4_fails ⟨Nat.le_trans (Nat.le_of_ble_eq_true rfl) hR.1, Nat.le_trans (Nat.le_of_ble_eq_true rfl) hR.2⟩ rfl hl.1 rfl (Nat.le_of_ble_eq_true rfl) rfl dX4_rule_16 (fun H locs cells slots I => ?_)
  refine lv_if_eq (tgt := 26) hx hb dX4_rule_19 (by decide) (fun c_19 => ?_) (fun c_19 => ?_)
  · have hf := ip c_19 hf
    refine lv_aload_n hx hb dX4_rule_26 rfl (lv_at hl 0 rfl) ?_
    refine lv_iload_n hx hb dX4_rule_27 rfl (lv_at hl 1 rfl) ?_
    obtain ⟨v_6, ev_6, hf⟩ := ob hf
    refine tw_V (some (.int v_6)) (rs := [.int v_6]) (rest := []) (As := [.int x1]) X I (mX4_ruled X.2.2.2.2.1 ev_6) lvX4_ruled hdX4_ruled ⟨Nat.le_trans (Nat.le_of_ble_eq_true rfl) hR.1, Nat.le_trans (Nat.le_of_ble_eq_true rfl) hR.2⟩ rfl hl.1 rfl (Nat.le_of_ble_eq_true rfl) rfl dX4_rule_28 (fun H locs cells slots I => ?_)
    cases os hf
    exact r_iret X I dX4_rule_31
  · have hf := im c_19 hf
    refine lv_iconst (v := 0) hx hb dX4_rule_22 (by decide) ?_
    refine lv_goto (tgt := 31) hx hb dX4_rule_23 (by decide) ?_
    cases os hf
    exact r_iret X I dX4_rule_31
theorem mX4_rule {E : EV} {l : Launch} {h : Nat} {S : St} {σ : TS} {x1 : Int32} {res : (Int32 × TS)} (hE : EK E) (hf : fX4_rule σ x1 = some res) : CM E l yX4_rule (ws_ yX4_rule cX4_rule 2 (some .int)) 1 25 [.ref h, .int x1] (twS h σ S) (some (.int res.1)) (twS h res.2 S) := by
  refine CM.of hE (by decide) rfl rfl (Nat.le_of_ble_eq_true rfl) ?_
  intro p e s m below meth c X I ls hl
  exact wX4_rule_0 ⟨Nat.le_refl _, Nat.le_refl _⟩ X _ _ _ _ _ _ _ I hl hf
/-! noZone(I)Z -/
theorem lvX4_noZone : GoodIn lw_all (wsV RX4 372 RX4 yX4_noZone (ws_ yX4_noZone cX4_noZone 2 (some .boolean))) := lw_V q3008 q3010 qs71 q120 q3011
theorem hdX4_noZone : yX4_noZone.cls = RX4 ∧ yX4_noZone.cls ≠ "java/lang/invoke/MethodHandle" ∧ yX4_noZone.cls ≠ "java/lang/invoke/VarHandle" ∧ (parseMethodDescriptor yX4_noZone.desc).map (fun d => d.parameters.length) = some 1 := by decide +kernel
theorem wX4_noZone_0 {E : EV} {l : Launch} {p : Program} {e : Env} {s : State} {m : MethodId} {args : Array Value} {below : List Frame} {meth : Method} {c : Code} {R : Room} {h : Nat} {S : St} {res : (Int32 × TS)} (hR : 1 ≤ R.frames ∧ 25 ≤ R.locals) (X : MX E p s m args meth c cX4_noZone 2 (some .boolean) RX4 "noZone") : ∀ (x1 : Int32) (σ : TS) (H : Heap) (locs : List Loc) (cells slots : Nat) (ls : Array Slot), WI E R s (twS h σ S) H locs cells slots → lv_has ls 2 [(0, .ref h), (1, .int x1)] → fX4_noZone σ x1 = some res → W p l e R s m args below meth c H locs cells slots (MQ below (Qd E R.cells R.slots (some (.int res.1)) (twS h res.2 S)) args s R.cells R.slots (fr E)) (F0 m 0 ls []) := by
  intro x1 σ H locs cells slots ls I hl hf
  obtain ⟨⟨hx, hb, hml, hown, hts⟩, -⟩ := id X
  unfold fX4_noZone at hf
  refine lv_aload_n hx hb dX4_noZone_0 rfl (lv_at hl 0 rfl) ?_
  refine lv_iload_n hx hb dX4_noZone_1 rfl (lv_at hl 1 rfl) ?_
  refine lv_i2l hx hb dX4_noZone_2 rfl ?_
  refine lv_lconst (v := 0) hx hb dX4_noZone_3 (by decide) ?_
  refine lv_aload_n hx hb dX4_noZone_4 rfl (lv_at hl 0 rfl) ?_
  refine tw_get X I 15 (v := .int (σ.1 0 15)) (by decide) q2702 rfl dX4_noZone_5 ?_
  refine lv_iconst (v := 1) hx hb dX4_noZone_8 (by decide) ?_
  refine lv_isub hx hb dX4_noZone_9 ?_
  refine lv_i2l hx hb dX4_noZone_10 rfl ?_
  obtain ⟨v_1, ev_1, hf⟩ := ob hf
  refine tw_S (some (.int v_1)) (rs := [.int v_1, .ref h]) (rest := [.ref h]) (As := [.long (x1.toInt64), .long (0 : Int64), .long (((σ.1 0 15) - (1 : Int32)).toInt64)]) X I (mX4_in X.2.2.2.2.1 ev_1) lvX4_in hdX4_in ⟨Nat.le_trans (Nat.le_of_ble_eq_true rfl) hR.1, Nat.le_trans (Nat.le_of_ble_eq_true rfl) hR.2⟩ rfl hl.1 rfl (Nat.le_of_ble_eq_true rfl) rfl dX4_noZone_11 (fun H locs cells slots I => ?_)
  refine lv_iconst (v := 1) hx hb dX4_noZone_14 (by decide) ?_
  obtain ⟨v_3, ev_3, hf⟩ := ob hf
  refine tw_V (some (.int v_3.1)) (rs := [.int v_3.1]) (rest := []) (As := [.int v_1, .int (1 : Int32)]) X I (mX4_fails X.2.2.2.2.1 ev_3) lvX4_fails hdX4_fails ⟨Nat.le_trans (Nat.le_of_ble_eq_true rfl) hR.1, Nat.le_trans (Nat.le_of_ble_eq_true rfl) hR.2⟩ rfl hl.1 rfl (Nat.le_of_ble_eq_true rfl) rfl dX4_noZone_15 (fun H locs cells slots I => ?_)
  by_cases d_18 : ¬ (v_3.1 = 0 ∨ v_3.1 = 1)
  · rw [if_neg d_18] at hf; cases hf
  have c_18 := Decidable.not_not.mp d_18
  have hf := ip c_18 hf
  cases os hf
  exact r_zret X I c_18 dX4_noZone_18
theorem mX4_noZone {E : EV} {l : Launch} {h : Nat} {S : St} {σ : TS} {x1 : Int32} {res : (Int32 × TS)} (hE : EK E) (hf : fX4_noZone σ x1 = some res) : CM E l yX4_noZone (ws_ yX4_noZone cX4_noZone 2 (some .boolean)) 1 25 [.ref h, .int x1] (twS h σ S) (some (.int res.1)) (twS h res.2 S) := by
  refine CM.of hE (by decide) rfl rfl (Nat.le_of_ble_eq_true rfl) ?_
  intro p e s m below meth c X I ls hl
  exact wX4_noZone_0 ⟨Nat.le_refl _, Nat.le_refl _⟩ X _ _ _ _ _ _ _ I hl hf
/-! minutesOf(II)I -/
theorem lvX4_minutesOf : GoodIn lw_all (wsV RX4 277 RX4 yX4_minutesOf (ws_ yX4_minutesOf cX4_minutesOf 3 (some .int))) := lw_V q3012 q3014 qs72 q120 q3015
theorem hdX4_minutesOf : yX4_minutesOf.cls = RX4 ∧ yX4_minutesOf.cls ≠ "java/lang/invoke/MethodHandle" ∧ yX4_minutesOf.cls ≠ "java/lang/invoke/VarHandle" ∧ (parseMethodDescriptor yX4_minutesOf.desc).map (fun d => d.parameters.length) = some 2 := by decide +kernel
theorem wX4_minutesOf_0 {E : EV} {l : Launch} {p : Program} {e : Env} {s : State} {m : MethodId} {args : Array Value} {below : List Frame} {meth : Method} {c : Code} {R : Room} {h : Nat} {S : St} {σ : TS} {res : Int32} (hR : 0 ≤ R.frames ∧ 0 ≤ R.locals) (X : MX E p s m args meth c cX4_minutesOf 3 (some .int) RX4 "minutesOf") : ∀ (x1 : Int32) (x2 : Int32) (H : Heap) (locs : List Loc) (cells slots : Nat) (ls : Array Slot), WI E R s (twS h σ S) H locs cells slots → lv_has ls 3 [(0, .ref h), (1, .int x1), (2, .int x2)] → fX4_minutesOf σ x1 x2 = some res → W p l e R s m args below meth c H locs cells slots (MQ below (Qd E R.cells R.slots (some (.int res)) (twS h σ S)) args s R.cells R.slots (fr E)) (F0 m 0 ls []) := by
  intro x1 x2 H locs cells slots ls I hl hf
  obtain ⟨⟨hx, hb, hml, hown, hts⟩, -⟩ := id X
  unfold fX4_minutesOf at hf
  refine lv_aload_n hx hb dX4_minutesOf_0 rfl (lv_at hl 0 rfl) ?_
  refine tw_get X I 19 (v := .ref (h + 9)) (by decide) q2706 rfl dX4_minutesOf_1 ?_
  refine lv_bipush (v := 8) hx hb dX4_minutesOf_4 (by decide) ?_
  refine lv_iload_n hx hb dX4_minutesOf_6 rfl (lv_at hl 1 rfl) ?_
  refine lv_imul hx hb dX4_minutesOf_7 ?_
  refine lv_iload_n hx hb dX4_minutesOf_8 rfl (lv_at hl 2 rfl) ?_
  refine lv_iadd hx hb dX4_minutesOf_9 ?_
  obtain ⟨v_1, ev_1, hf⟩ := ob hf
  refine tw_ald X I 9 (by decide) (by decide) (by decide) ev_1 dX4_minutesOf_10 ?_
  cases os hf
  exact r_iret X I dX4_minutesOf_11
theorem mX4_minutesOf {E : EV} {l : Launch} {h : Nat} {S : St} {σ : TS} {x1 : Int32} {x2 : Int32} {res : Int32} (hE : EK E) (hf : fX4_minutesOf σ x1 x2 = some res) : CM E l yX4_minutesOf (ws_ yX4_minutesOf cX4_minutesOf 3 (some .int)) 0 0 [.ref h, .int x1, .int x2] (twS h σ S) (some (.int res)) (twS h σ S) := by
  refine CM.of hE (by decide) rfl rfl (Nat.le_of_ble_eq_true rfl) ?_
  intro p e s m below meth c X I ls hl
  exact wX4_minutesOf_0 ⟨Nat.le_refl _, Nat.le_refl _⟩ X _ _ _ _ _ _ _ I hl hf
/-! minutes(II)I -/
theorem wX4_minutes_0 {E : EV} {l : Launch} {p : Program} {e : Env} {s : State} {m : MethodId} {args : Array Value} {below : List Frame} {meth : Method} {c : Code} {R : Room} {h : Nat} {S : St} {res : (Int32 × TS)} (hR : 2 ≤ R.frames ∧ 46 ≤ R.locals) (X : MX E p s m args meth c cX4_minutes 3 (some .int) RX4 "minutes") : ∀ (x1 : Int32) (x2 : Int32) (σ : TS) (H : Heap) (locs : List Loc) (cells slots : Nat) (ls : Array Slot), WI E R s (twS h σ S) H locs cells slots → lv_has ls 3 [(0, .ref h), (1, .int x1), (2, .int x2)] → fX4_minutes σ x1 x2 = some res → W p l e R s m args below meth c H locs cells slots (MQ below (Qd E R.cells R.slots (some (.int res.1)) (twS h res.2 S)) args s R.cells R.slots (fr E)) (F0 m 0 ls []) := by
  intro x1 x2 σ H locs cells slots ls I hl hf
  obtain ⟨⟨hx, hb, hml, hown, hts⟩, -⟩ := id X
  unfold fX4_minutes at hf
  refine lv_aload_n hx hb dX4_minutes_0 rfl (lv_at hl 0 rfl) ?_
  refine lv_iconst (v := 0) hx hb dX4_minutes_1 (by decide) ?_
  obtain ⟨σ_1, eσ_1, hf⟩ := ol hf
  refine tw_put X I 0 (ty := .int) (by decide) (by decide) rfl q2687 rfl rfl rfl rfl eσ_1 dX4_minutes_2 (fun H locs I => ?_)
  refine lv_aload_n hx hb dX4_minutes_5 rfl (lv_at hl 0 rfl) ?_
  refine lv_iload_n hx hb dX4_minutes_6 rfl (lv_at hl 1 rfl) ?_
  obtain ⟨v_2, ev_2, hf⟩ := ob hf
  refine tw_V (some (.int v_2.1)) (rs := [.int v_2.1]) (rest := []) (As := [.int x1]) X I (mX4_noZone X.2.2.2.2.1 ev_2) lvX4_noZone hdX4_noZone ⟨Nat.le_trans (Nat.le_of_ble_eq_true rfl) hR.1, Nat.le_trans (Nat.le_of_ble_eq_true rfl) hR.2⟩ rfl hl.1 rfl (Nat.le_of_ble_eq_true rfl) rfl dX4_minutes_7 (fun H locs cells slots I => ?_)
  refine lv_if_ne (tgt := 21) hx hb dX4_minutes_10 (by decide) (fun c_10 => ?_) (fun c_10 => ?_)
  · have hf := im c_10 hf
    refine lv_iconst (v := 0) hx hb dX4_minutes_21 (by decide) ?_
    refine lv_goto (tgt := 31) hx hb dX4_minutes_22 (by decide) ?_
    cases os hf
    exact r_iret X I dX4_minutes_31
  · have hf := ip c_10 hf
    refine lv_aload_n hx hb dX4_minutes_13 rfl (lv_at hl 0 rfl) ?_
    refine lv_iload_n hx hb dX4_minutes_14 rfl (lv_at hl 2 rfl) ?_
    obtain ⟨v_4, ev_4, hf⟩ := ob hf
    refine tw_V (some (.int v_4.1)) (rs := [.int v_4.1]) (rest := []) (As := [.int x2]) X I (mX4_noZone X.2.2.2.2.1 ev_4) lvX4_noZone hdX4_noZone ⟨Nat.le_trans (Nat.le_of_ble_eq_true rfl) hR.1, Nat.le_trans (Nat.le_of_ble_eq_true rfl) hR.2⟩ rfl hl.1 rfl (Nat.le_of_ble_eq_true rfl) rfl dX4_minutes_15 (fun H locs cells slots I => ?_)
    refine lv_if_eq (tgt := 25) hx hb dX4_minutes_18 (by decide) (fun c_18 => ?_) (fun c_18 => ?_)
    · have hf := ip c_18 hf
      refine lv_aload_n hx hb dX4_minutes_25 rfl (lv_at hl 0 rfl) ?_
      refine lv_iload_n hx hb dX4_minutes_26 rfl (lv_at hl 1 rfl) ?_
      refine lv_iload_n hx hb dX4_minutes_27 rfl (lv_at hl 2 rfl) ?_
      obtain ⟨v_6, ev_6, hf⟩ := ob hf
      refine tw_V (some (.int v_6)) (rs := [.int v_6]) (rest := []) (As := [.int x1, .int x2]) X I (mX4_minutesOf X.2.2.2.2.1 ev_6) lvX4_minutesOf hdX4_minutesOf ⟨Nat.le_trans (Nat.le_of_ble_eq_true rfl) hR.1, Nat.le_trans (Nat.le_of_ble_eq_true rfl) hR.2⟩ rfl hl.1 rfl (Nat.le_of_ble_eq_true rfl) rfl dX4_minutes_28 (fun H locs cells slots I => ?_)
      cases os hf
      exact r_iret X I dX4_minutes_31
    · have hf := im c_18 hf
      refine lv_iconst (v := 0) hx hb dX4_minutes_21 (by decide) ?_
      refine lv_goto (tgt := 31) hx hb dX4_minutes_22 (by decide) ?_
      cases os hf
      exact r_iret X I dX4_minutes_31
theorem mX4_minutes {E : EV} {l : Launch} {h : Nat} {S : St} {σ : TS} {x1 : Int32} {x2 : Int32} {res : (Int32 × TS)} (hE : EK E) (hf : fX4_minutes σ x1 x2 = some res) : CM E l yX4_minutes (ws_ yX4_minutes cX4_minutes 3 (some .int)) 2 46 [.ref h, .int x1, .int x2] (twS h σ S) (some (.int res.1)) (twS h res.2 S) := by
  refine CM.of hE (by decide) rfl rfl (Nat.le_of_ble_eq_true rfl) ?_
  intro p e s m below meth c X I ls hl
  exact wX4_minutes_0 ⟨Nat.le_refl _, Nat.le_refl _⟩ X _ _ _ _ _ _ _ _ I hl hf
/-! noTaxi(I)Z -/
theorem lvX4_noTaxi : GoodIn lw_all (wsV RX4 375 RX4 yX4_noTaxi (ws_ yX4_noTaxi cX4_noTaxi 2 (some .boolean))) := lw_V q3020 q3022 qs73 q120 q3023
theorem hdX4_noTaxi : yX4_noTaxi.cls = RX4 ∧ yX4_noTaxi.cls ≠ "java/lang/invoke/MethodHandle" ∧ yX4_noTaxi.cls ≠ "java/lang/invoke/VarHandle" ∧ (parseMethodDescriptor yX4_noTaxi.desc).map (fun d => d.parameters.length) = some 1 := by decide +kernel
theorem wX4_noTaxi_0 {E : EV} {l : Launch} {p : Program} {e : Env} {s : State} {m : MethodId} {args : Array Value} {below : List Frame} {meth : Method} {c : Code} {R : Room} {h : Nat} {S : St} {res : (Int32 × TS)} (hR : 1 ≤ R.frames ∧ 25 ≤ R.locals) (X : MX E p s m args meth c cX4_noTaxi 2 (some .boolean) RX4 "noTaxi") : ∀ (x1 : Int32) (σ : TS) (H : Heap) (locs : List Loc) (cells slots : Nat) (ls : Array Slot), WI E R s (twS h σ S) H locs cells slots → lv_has ls 2 [(0, .ref h), (1, .int x1)] → fX4_noTaxi σ x1 = some res → W p l e R s m args below meth c H locs cells slots (MQ below (Qd E R.cells R.slots (some (.int res.1)) (twS h res.2 S)) args s R.cells R.slots (fr E)) (F0 m 0 ls []) := by
  intro x1 σ H locs cells slots ls I hl hf
  obtain ⟨⟨hx, hb, hml, hown, hts⟩, -⟩ := id X
  unfold fX4_noTaxi at hf
  refine lv_aload_n hx hb dX4_noTaxi_0 rfl (lv_at hl 0 rfl) ?_
  refine lv_iload_n hx hb dX4_noTaxi_1 rfl (lv_at hl 1 rfl) ?_
  refine lv_i2l hx hb dX4_noTaxi_2 rfl ?_
  refine lv_lconst (v := 0) hx hb dX4_noTaxi_3 (by decide) ?_
  refine lv_aload_n hx hb dX4_noTaxi_4 rfl (lv_at hl 0 rfl) ?_
  refine tw_get X I 17 (v := .int (σ.1 0 17)) (by decide) q2704 rfl dX4_noTaxi_5 ?_
  refine lv_iconst (v := 1) hx hb dX4_noTaxi_8 (by decide) ?_
  refine lv_isub hx hb dX4_noTaxi_9 ?_
  refine lv_i2l hx hb dX4_noTaxi_10 rfl ?_
  obtain ⟨v_1, ev_1, hf⟩ := ob hf
  refine tw_S (some (.int v_1)) (rs := [.int v_1, .ref h]) (rest := [.ref h]) (As := [.long (x1.toInt64), .long (0 : Int64), .long (((σ.1 0 17) - (1 : Int32)).toInt64)]) X I (mX4_in X.2.2.2.2.1 ev_1) lvX4_in hdX4_in ⟨Nat.le_trans (Nat.le_of_ble_eq_true rfl) hR.1, Nat.le_trans (Nat.le_of_ble_eq_true rfl) hR.2⟩ rfl hl.1 rfl (Nat.le_of_ble_eq_true rfl) rfl dX4_noTaxi_11 (fun H locs cells slots I => ?_)
  refine lv_iconst (v := 1) hx hb dX4_noTaxi_14 (by decide) ?_
  obtain ⟨v_3, ev_3, hf⟩ := ob hf
  refine tw_V (some (.int v_3.1)) (rs := [.int v_3.1]) (rest := []) (As := [.int v_1, .int (1 : Int32)]) X I (mX4_fails X.2.2.2.2.1 ev_3) lvX4_fails hdX4_fails ⟨Nat.le_trans (Nat.le_of_ble_eq_true rfl) hR.1, Nat.le_trans (Nat.le_of_ble_eq_true rfl) hR.2⟩ rfl hl.1 rfl (Nat.le_of_ble_eq_true rfl) rfl dX4_noTaxi_15 (fun H locs cells slots I => ?_)
  by_cases d_18 : ¬ (v_3.1 = 0 ∨ v_3.1 = 1)
  · rw [if_neg d_18] at hf; cases hf
  have c_18 := Decidable.not_not.mp d_18
  have hf := ip c_18 hf
  cases os hf
  exact r_zret X I c_18 dX4_noTaxi_18
theorem mX4_noTaxi {E : EV} {l : Launch} {h : Nat} {S : St} {σ : TS} {x1 : Int32} {res : (Int32 × TS)} (hE : EK E) (hf : fX4_noTaxi σ x1 = some res) : CM E l yX4_noTaxi (ws_ yX4_noTaxi cX4_noTaxi 2 (some .boolean)) 1 25 [.ref h, .int x1] (twS h σ S) (some (.int res.1)) (twS h res.2 S) := by
  refine CM.of hE (by decide) rfl rfl (Nat.le_of_ble_eq_true rfl) ?_
  intro p e s m below meth c X I ls hl
  exact wX4_noTaxi_0 ⟨Nat.le_refl _, Nat.le_refl _⟩ X _ _ _ _ _ _ _ I hl hf
/-! personsAboard(I)I -/
theorem lvX4_personsAboard : GoodIn lw_all (wsV RX4 286 RX4 yX4_personsAboard (ws_ yX4_personsAboard cX4_personsAboard 4 (some .int))) := lw_V q3024 q3026 qs74 q120 q3027
theorem hdX4_personsAboard : yX4_personsAboard.cls = RX4 ∧ yX4_personsAboard.cls ≠ "java/lang/invoke/MethodHandle" ∧ yX4_personsAboard.cls ≠ "java/lang/invoke/VarHandle" ∧ (parseMethodDescriptor yX4_personsAboard.desc).map (fun d => d.parameters.length) = some 1 := by decide +kernel
theorem wX4_personsAboard_4 {E : EV} {l : Launch} {p : Program} {e : Env} {s : State} {m : MethodId} {args : Array Value} {below : List Frame} {meth : Method} {c : Code} {R : Room} {h : Nat} {S : St} {σ : TS} {res : Int32} (hR : 1 ≤ R.frames ∧ 22 ≤ R.locals) (X : MX E p s m args meth c cX4_personsAboard 4 (some .int) RX4 "personsAboard") (N : Nat) : ∀ (n : Nat) (x1 : Int32) (x2 : Int32) (x3 : Int32) (H : Heap) (locs : List Loc) (cells slots : Nat) (ls : Array Slot), WI E R s (twS h σ S) H locs cells slots → lv_has ls 4 [(0, .ref h), (1, .int x1), (2, .int x2), (3, .int x3)] → fX4_personsAboard_4 N σ n x1 x2 x3 = some res → W p l e R s m args below meth c H locs cells slots (MQ below (Qd E R.cells R.slots (some (.int res)) (twS h σ S)) args s R.cells R.slots (fr E)) (F0 m 4 ls []) := by
  intro n
  induction n with
  | zero => intro x1 x2 x3 H locs cells slots ls I hl hf; exact nomatch (show none = some res from hf)
  | succ n ih =>
    intro x1 x2 x3 H locs cells slots ls I hl hf
    obtain ⟨⟨hx, hb, hml, hown, hts⟩, -⟩ := id X
    rw [fX4_personsAboard_4.eq_2] at hf
    refine lv_iload_n hx hb dX4_personsAboard_4 rfl (lv_at hl 3 rfl) ?_
    refine lv_aload_n hx hb dX4_personsAboard_5 rfl (lv_at hl 0 rfl) ?_
    refine lv_iload_n hx hb dX4_personsAboard_6 rfl (lv_at hl 1 rfl) ?_
    refine lv_bipush (v := 24) hx hb dX4_personsAboard_7 (by decide) ?_
    obtain ⟨v_1, ev_1, hf⟩ := ob hf
    refine tw_V (some (.int v_1)) (rs := [.int v_1, .int x3]) (rest := [.int x3]) (As := [.int x1, .int (24 : Int32)]) X I (mX4_in2 X.2.2.2.2.1 ev_1) lvX4_in2 hdX4_in2 ⟨Nat.le_trans (Nat.le_of_ble_eq_true rfl) hR.1, Nat.le_trans (Nat.le_of_ble_eq_true rfl) hR.2⟩ rfl hl.1 rfl (Nat.le_of_ble_eq_true rfl) rfl dX4_personsAboard_9 (fun H locs cells slots I => ?_)
    refine lv_icmp_ge (tgt := 38) hx hb dX4_personsAboard_12 (by decide) (fun c_12 => ?_) (fun c_12 => ?_)
    · have hf := ip c_12 hf
      refine lv_iload_n hx hb dX4_personsAboard_38 rfl (lv_at hl 2 rfl) ?_
      cases os hf
      exact r_iret X I dX4_personsAboard_39
    · have hf := im c_12 hf
      refine lv_iload_n hx hb dX4_personsAboard_15 rfl (lv_at hl 2 rfl) ?_
      refine lv_aload_n hx hb dX4_personsAboard_16 rfl (lv_at hl 0 rfl) ?_
      refine lv_aload_n hx hb dX4_personsAboard_17 rfl (lv_at hl 0 rfl) ?_
      refine lv_iload_n hx hb dX4_personsAboard_18 rfl (lv_at hl 1 rfl) ?_
      refine lv_bipush (v := 25) hx hb dX4_personsAboard_19 (by decide) ?_
      refine lv_iload_n hx hb dX4_personsAboard_21 rfl (lv_at hl 3 rfl) ?_
      refine lv_iadd hx hb dX4_personsAboard_22 ?_
      obtain ⟨v_3, ev_3, hf⟩ := ob hf
      refine tw_V (some (.int v_3)) (rs := [.int v_3, .ref h, .int x2]) (rest := [.ref h, .int x2]) (As := [.int x1, .int ((25 : Int32) + x3)]) X I (mX4_in2 X.2.2.2.2.1 ev_3) lvX4_in2 hdX4_in2 ⟨Nat.le_trans (Nat.le_of_ble_eq_true rfl) hR.1, Nat.le_trans (Nat.le_of_ble_eq_true rfl) hR.2⟩ rfl hl.1 rfl (Nat.le_of_ble_eq_true rfl) rfl dX4_personsAboard_23 (fun H locs cells slots I => ?_)
      refine lv_iconst (v := 3) hx hb dX4_personsAboard_26 (by decide) ?_
      obtain ⟨v_5, ev_5, hf⟩ := ob hf
      refine tw_V (some (.int v_5)) (rs := [.int v_5, .int x2]) (rest := [.int x2]) (As := [.int v_3, .int (3 : Int32)]) X I (mX4_of X.2.2.2.2.1 ev_5) lvX4_of hdX4_of ⟨Nat.le_trans (Nat.le_of_ble_eq_true rfl) hR.1, Nat.le_trans (Nat.le_of_ble_eq_true rfl) hR.2⟩ rfl hl.1 rfl (Nat.le_of_ble_eq_true rfl) rfl dX4_personsAboard_27 (fun H locs cells slots I => ?_)
      refine lv_iadd hx hb dX4_personsAboard_30 ?_
      obtain ⟨x2_7, ex2_7, hf⟩ := ol hf
      refine nm_i ex2_7 ?_
      refine lv_istore_n (lv' := [(2, .int x2_7), (0, .ref h), (1, .int x1), (3, .int x3)]) hx hb dX4_personsAboard_31 rfl hl (by decide) rfl (fun ls hl => ?_)
      obtain ⟨x3_8, ex3_8, hf⟩ := ol hf
      refine lv_iinc (v := x3_8) (lv' := [(3, .int x3_8), (2, .int x2_7), (0, .ref h), (1, .int x1)]) hx hb dX4_personsAboard_32 hl (k := 3) rfl ex3_8 (by decide) rfl (fun ls hl => ?_)
      refine lv_goto (tgt := 4) hx hb dX4_personsAboard_35 (by decide) ?_
      exact ih _ _ _ _ _ _ _ _ I (lv_sub hl [2, 3, 1, 0] rfl) hf
theorem wX4_personsAboard_0 {E : EV} {l : Launch} {p : Program} {e : Env} {s : State} {m : MethodId} {args : Array Value} {below : List Frame} {meth : Method} {c : Code} {R : Room} {h : Nat} {S : St} {σ : TS} {res : Int32} (hR : 1 ≤ R.frames ∧ 22 ≤ R.locals) (X : MX E p s m args meth c cX4_personsAboard 4 (some .int) RX4 "personsAboard") (N : Nat) : ∀ (x1 : Int32) (H : Heap) (locs : List Loc) (cells slots : Nat) (ls : Array Slot), WI E R s (twS h σ S) H locs cells slots → lv_has ls 4 [(0, .ref h), (1, .int x1)] → fX4_personsAboard N σ x1 = some res → W p l e R s m args below meth c H locs cells slots (MQ below (Qd E R.cells R.slots (some (.int res)) (twS h σ S)) args s R.cells R.slots (fr E)) (F0 m 0 ls []) := by
  intro x1 H locs cells slots ls I hl hf
  obtain ⟨⟨hx, hb, hml, hown, hts⟩, -⟩ := id X
  unfold fX4_personsAboard at hf
  refine lv_iconst (v := 0) hx hb dX4_personsAboard_0 (by decide) ?_
  refine lv_istore_n (lv' := [(2, .int (0 : Int32)), (0, .ref h), (1, .int x1)]) hx hb dX4_personsAboard_1 rfl hl (by decide) rfl (fun ls hl => ?_)
  refine lv_iconst (v := 0) hx hb dX4_personsAboard_2 (by decide) ?_
  refine lv_istore_n (lv' := [(3, .int (0 : Int32)), (2, .int (0 : Int32)), (0, .ref h), (1, .int x1)]) hx hb dX4_personsAboard_3 rfl hl (by decide) rfl (fun ls hl => ?_)
  exact wX4_personsAboard_4 hR X N N _ _ _ _ _ _ _ _ I (lv_sub hl [2, 3, 1, 0] rfl) hf
theorem mX4_personsAboard {E : EV} {l : Launch} {h : Nat} {S : St} {N : Nat} {σ : TS} {x1 : Int32} {res : Int32} (hE : EK E) (hf : fX4_personsAboard N σ x1 = some res) : CM E l yX4_personsAboard (ws_ yX4_personsAboard cX4_personsAboard 4 (some .int)) 1 22 [.ref h, .int x1] (twS h σ S) (some (.int res)) (twS h σ S) := by
  refine CM.of hE (by decide) rfl rfl (Nat.le_of_ble_eq_true rfl) ?_
  intro p e s m below meth c X I ls hl
  exact wX4_personsAboard_0 ⟨Nat.le_refl _, Nat.le_refl _⟩ X N _ _ _ _ _ _ I hl hf
/-! taxi(II)I -/
theorem wX4_taxi_0 {E : EV} {l : Launch} {p : Program} {e : Env} {s : State} {m : MethodId} {args : Array Value} {below : List Frame} {meth : Method} {c : Code} {R : Room} {h : Nat} {S : St} {res : (Int32 × TS)} (hR : 2 ≤ R.frames ∧ 46 ≤ R.locals) (X : MX E p s m args meth c cX4_taxi 3 (some .int) RX4 "taxi") (N : Nat) : ∀ (x1 : Int32) (x2 : Int32) (σ : TS) (H : Heap) (locs : List Loc) (cells slots : Nat) (ls : Array Slot), WI E R s (twS h σ S) H locs cells slots → lv_has ls 3 [(0, .ref h), (1, .int x1), (2, .int x2)] → fX4_taxi N σ x1 x2 = some res → W p l e R s m args below meth c H locs cells slots (MQ below (Qd E R.cells R.slots (some (.int res.1)) (twS h res.2 S)) args s R.cells R.slots (fr E)) (F0 m 0 ls []) := by
  intro x1 x2 σ H locs cells slots ls I hl hf
  obtain ⟨⟨hx, hb, hml, hown, hts⟩, -⟩ := id X
  unfold fX4_taxi at hf
  refine lv_aload_n hx hb dX4_taxi_0 rfl (lv_at hl 0 rfl) ?_
  refine lv_iconst (v := 0) hx hb dX4_taxi_1 (by decide) ?_
  obtain ⟨σ_1, eσ_1, hf⟩ := ol hf
  refine tw_put X I 0 (ty := .int) (by decide) (by decide) rfl q2687 rfl rfl rfl rfl eσ_1 dX4_taxi_2 (fun H locs I => ?_)
  refine lv_aload_n hx hb dX4_taxi_5 rfl (lv_at hl 0 rfl) ?_
  refine lv_iload_n hx hb dX4_taxi_6 rfl (lv_at hl 1 rfl) ?_
  obtain ⟨v_2, ev_2, hf⟩ := ob hf
  refine tw_V (some (.int v_2.1)) (rs := [.int v_2.1]) (rest := []) (As := [.int x1]) X I (mX4_noTaxi X.2.2.2.2.1 ev_2) lvX4_noTaxi hdX4_noTaxi ⟨Nat.le_trans (Nat.le_of_ble_eq_true rfl) hR.1, Nat.le_trans (Nat.le_of_ble_eq_true rfl) hR.2⟩ rfl hl.1 rfl (Nat.le_of_ble_eq_true rfl) rfl dX4_taxi_7 (fun H locs cells slots I => ?_)
  refine lv_if_ne (tgt := 30) hx hb dX4_taxi_10 (by decide) (fun c_10 => ?_) (fun c_10 => ?_)
  · have hf := im c_10 hf
    refine lv_iconst (v := 0) hx hb dX4_taxi_30 (by decide) ?_
    cases os hf
    exact r_iret X I dX4_taxi_31
  · have hf := ip c_10 hf
    refine lv_aload_n hx hb dX4_taxi_13 rfl (lv_at hl 0 rfl) ?_
    refine lv_iload_n hx hb dX4_taxi_14 rfl (lv_at hl 2 rfl) ?_
    refine lv_i2l hx hb dX4_taxi_15 rfl ?_
    refine lv_lconst (v := 0) hx hb dX4_taxi_16 (by decide) ?_
    refine lv_ldc2 (v := 9) hx hb hown (hts _ q2999) dX4_taxi_17 ?_
    obtain ⟨v_4, ev_4, hf⟩ := ob hf
    refine tw_S (some (.int v_4)) (rs := [.int v_4, .ref h]) (rest := [.ref h]) (As := [.long (x2.toInt64), .long (0 : Int64), .long (9 : Int64)]) X I (mX4_in X.2.2.2.2.1 ev_4) lvX4_in hdX4_in ⟨Nat.le_trans (Nat.le_of_ble_eq_true rfl) hR.1, Nat.le_trans (Nat.le_of_ble_eq_true rfl) hR.2⟩ rfl hl.1 rfl (Nat.le_of_ble_eq_true rfl) rfl dX4_taxi_20 (fun H locs cells slots I => ?_)
    refine lv_iconst (v := 1) hx hb dX4_taxi_23 (by decide) ?_
    obtain ⟨v_6, ev_6, hf⟩ := ob hf
    refine tw_V (some (.int v_6.1)) (rs := [.int v_6.1]) (rest := []) (As := [.int v_4, .int (1 : Int32)]) X I (mX4_fails X.2.2.2.2.1 ev_6) lvX4_fails hdX4_fails ⟨Nat.le_trans (Nat.le_of_ble_eq_true rfl) hR.1, Nat.le_trans (Nat.le_of_ble_eq_true rfl) hR.2⟩ rfl hl.1 rfl (Nat.le_of_ble_eq_true rfl) rfl dX4_taxi_24 (fun H locs cells slots I => ?_)
    refine lv_if_eq (tgt := 32) hx hb dX4_taxi_27 (by decide) (fun c_27 => ?_) (fun c_27 => ?_)
    · have hf := ip c_27 hf
      refine lv_iload_n hx hb dX4_taxi_32 rfl (lv_at hl 2 rfl) ?_
      by_cases c_33_0 : x2 = 0
      · have hf := ip c_33_0 hf
        refine lv_tableIn (off := 51) (tgt := 84) hx hb dX4_taxi_33 (by rw [c_33_0]; decide) (by rw [c_33_0]; decide) (by rw [c_33_0]; rfl) (by decide) ?_
        refine lv_aload_n hx hb dX4_taxi_84 rfl (lv_at hl 0 rfl) ?_
        refine tw_get X I 20 (v := .ref (h + 10)) (by decide) q2707 rfl dX4_taxi_85 ?_
        refine lv_iload_n hx hb dX4_taxi_88 rfl (lv_at hl 1 rfl) ?_
        obtain ⟨v_8, ev_8, hf⟩ := ob hf
        refine tw_ald X I 10 (by decide) (by decide) (by decide) ev_8 dX4_taxi_89 ?_
        cases os hf
        exact r_iret X I dX4_taxi_90
      · have hf := im c_33_0 hf
        by_cases c_33_1 : x2 = 1
        · have hf := ip c_33_1 hf
          refine lv_tableIn (off := 58) (tgt := 91) hx hb dX4_taxi_33 (by rw [c_33_1]; decide) (by rw [c_33_1]; decide) (by rw [c_33_1]; rfl) (by decide) ?_
          refine lv_aload_n hx hb dX4_taxi_91 rfl (lv_at hl 0 rfl) ?_
          refine lv_iload_n hx hb dX4_taxi_92 rfl (lv_at hl 1 rfl) ?_
          refine lv_iconst (v := 0) hx hb dX4_taxi_93 (by decide) ?_
          obtain ⟨v_9, ev_9, hf⟩ := ob hf
          refine tw_V (some (.int v_9)) (rs := [.int v_9]) (rest := []) (As := [.int x1, .int (0 : Int32)]) X I (mX4_in2 X.2.2.2.2.1 ev_9) lvX4_in2 hdX4_in2 ⟨Nat.le_trans (Nat.le_of_ble_eq_true rfl) hR.1, Nat.le_trans (Nat.le_of_ble_eq_true rfl) hR.2⟩ rfl hl.1 rfl (Nat.le_of_ble_eq_true rfl) rfl dX4_taxi_94 (fun H locs cells slots I => ?_)
          cases os hf
          exact r_iret X I dX4_taxi_97
        · have hf := im c_33_1 hf
          by_cases c_33_2 : x2 = 2
          · have hf := ip c_33_2 hf
            refine lv_tableIn (off := 65) (tgt := 98) hx hb dX4_taxi_33 (by rw [c_33_2]; decide) (by rw [c_33_2]; decide) (by rw [c_33_2]; rfl) (by decide) ?_
            refine lv_aload_n hx hb dX4_taxi_98 rfl (lv_at hl 0 rfl) ?_
            refine lv_iload_n hx hb dX4_taxi_99 rfl (lv_at hl 1 rfl) ?_
            refine lv_iconst (v := 1) hx hb dX4_taxi_100 (by decide) ?_
            obtain ⟨v_11, ev_11, hf⟩ := ob hf
            refine tw_V (some (.int v_11)) (rs := [.int v_11]) (rest := []) (As := [.int x1, .int (1 : Int32)]) X I (mX4_in2 X.2.2.2.2.1 ev_11) lvX4_in2 hdX4_in2 ⟨Nat.le_trans (Nat.le_of_ble_eq_true rfl) hR.1, Nat.le_trans (Nat.le_of_ble_eq_true rfl) hR.2⟩ rfl hl.1 rfl (Nat.le_of_ble_eq_true rfl) rfl dX4_taxi_101 (fun H locs cells slots I => ?_)
            cases os hf
            exact r_iret X I dX4_taxi_104
          · have hf := im c_33_2 hf
            by_cases c_33_3 : x2 = 3
            · have hf := ip c_33_3 hf
              refine lv_tableIn (off := 72) (tgt := 105) hx hb dX4_taxi_33 (by rw [c_33_3]; decide) (by rw [c_33_3]; decide) (by rw [c_33_3]; rfl) (by decide) ?_
              refine lv_aload_n hx hb dX4_taxi_105 rfl (lv_at hl 0 rfl) ?_
              refine tw_get X I 21 (v := .ref (h + 11)) (by decide) q2708 rfl dX4_taxi_106 ?_
              refine lv_iload_n hx hb dX4_taxi_109 rfl (lv_at hl 1 rfl) ?_
              obtain ⟨v_13, ev_13, hf⟩ := ob hf
              refine tw_ald X I 11 (by decide) (by decide) (by decide) ev_13 dX4_taxi_110 ?_
              cases os hf
              exact r_iret X I dX4_taxi_111
            · have hf := im c_33_3 hf
              by_cases c_33_4 : x2 = 4
              · have hf := ip c_33_4 hf
                refine lv_tableIn (off := 79) (tgt := 112) hx hb dX4_taxi_33 (by rw [c_33_4]; decide) (by rw [c_33_4]; decide) (by rw [c_33_4]; rfl) (by decide) ?_
                refine lv_aload_n hx hb dX4_taxi_112 rfl (lv_at hl 0 rfl) ?_
                refine lv_iload_n hx hb dX4_taxi_113 rfl (lv_at hl 1 rfl) ?_
                refine lv_iconst (v := 4) hx hb dX4_taxi_114 (by decide) ?_
                obtain ⟨v_14, ev_14, hf⟩ := ob hf
                refine tw_V (some (.int v_14)) (rs := [.int v_14]) (rest := []) (As := [.int x1, .int (4 : Int32)]) X I (mX4_in2 X.2.2.2.2.1 ev_14) lvX4_in2 hdX4_in2 ⟨Nat.le_trans (Nat.le_of_ble_eq_true rfl) hR.1, Nat.le_trans (Nat.le_of_ble_eq_true rfl) hR.2⟩ rfl hl.1 rfl (Nat.le_of_ble_eq_true rfl) rfl dX4_taxi_115 (fun H locs cells slots I => ?_)
                cases os hf
                exact r_iret X I dX4_taxi_118
              · have hf := im c_33_4 hf
                by_cases c_33_5 : x2 = 5
                · have hf := ip c_33_5 hf
                  refine lv_tableIn (off := 86) (tgt := 119) hx hb dX4_taxi_33 (by rw [c_33_5]; decide) (by rw [c_33_5]; decide) (by rw [c_33_5]; rfl) (by decide) ?_
                  refine lv_aload_n hx hb dX4_taxi_119 rfl (lv_at hl 0 rfl) ?_
                  refine lv_iload_n hx hb dX4_taxi_120 rfl (lv_at hl 1 rfl) ?_
                  refine lv_bipush (v := 11) hx hb dX4_taxi_121 (by decide) ?_
                  obtain ⟨v_16, ev_16, hf⟩ := ob hf
                  refine tw_V (some (.int v_16)) (rs := [.int v_16]) (rest := []) (As := [.int x1, .int (11 : Int32)]) X I (mX4_in2 X.2.2.2.2.1 ev_16) lvX4_in2 hdX4_in2 ⟨Nat.le_trans (Nat.le_of_ble_eq_true rfl) hR.1, Nat.le_trans (Nat.le_of_ble_eq_true rfl) hR.2⟩ rfl hl.1 rfl (Nat.le_of_ble_eq_true rfl) rfl dX4_taxi_123 (fun H locs cells slots I => ?_)
                  cases os hf
                  exact r_iret X I dX4_taxi_126
                · have hf := im c_33_5 hf
                  by_cases c_33_6 : x2 = 6
                  · have hf := ip c_33_6 hf
                    refine lv_tableIn (off := 94) (tgt := 127) hx hb dX4_taxi_33 (by rw [c_33_6]; decide) (by rw [c_33_6]; decide) (by rw [c_33_6]; rfl) (by decide) ?_
                    refine lv_aload_n hx hb dX4_taxi_127 rfl (lv_at hl 0 rfl) ?_
                    refine lv_iload_n hx hb dX4_taxi_128 rfl (lv_at hl 1 rfl) ?_
                    obtain ⟨v_18, ev_18, hf⟩ := ob hf
                    refine tw_V (some (.int v_18)) (rs := [.int v_18]) (rest := []) (As := [.int x1]) X I (mX4_personsAboard X.2.2.2.2.1 ev_18) lvX4_personsAboard hdX4_personsAboard ⟨Nat.le_trans (Nat.le_of_ble_eq_true rfl) hR.1, Nat.le_trans (Nat.le_of_ble_eq_true rfl) hR.2⟩ rfl hl.1 rfl (Nat.le_of_ble_eq_true rfl) rfl dX4_taxi_129 (fun H locs cells slots I => ?_)
                    cases os hf
                    exact r_iret X I dX4_taxi_132
                  · have hf := im c_33_6 hf
                    by_cases c_33_7 : x2 = 7
                    · have hf := ip c_33_7 hf
                      refine lv_tableIn (off := 100) (tgt := 133) hx hb dX4_taxi_33 (by rw [c_33_7]; decide) (by rw [c_33_7]; decide) (by rw [c_33_7]; rfl) (by decide) ?_
                      refine lv_aload_n hx hb dX4_taxi_133 rfl (lv_at hl 0 rfl) ?_
                      refine lv_iload_n hx hb dX4_taxi_134 rfl (lv_at hl 1 rfl) ?_
                      refine lv_bipush (v := 24) hx hb dX4_taxi_135 (by decide) ?_
                      obtain ⟨v_20, ev_20, hf⟩ := ob hf
                      refine tw_V (some (.int v_20)) (rs := [.int v_20]) (rest := []) (As := [.int x1, .int (24 : Int32)]) X I (mX4_in2 X.2.2.2.2.1 ev_20) lvX4_in2 hdX4_in2 ⟨Nat.le_trans (Nat.le_of_ble_eq_true rfl) hR.1, Nat.le_trans (Nat.le_of_ble_eq_true rfl) hR.2⟩ rfl hl.1 rfl (Nat.le_of_ble_eq_true rfl) rfl dX4_taxi_137 (fun H locs cells slots I => ?_)
                      cases os hf
                      exact r_iret X I dX4_taxi_140
                    · have hf := im c_33_7 hf
                      by_cases c_33_8 : x2 = 8
                      · have hf := ip c_33_8 hf
                        refine lv_tableIn (off := 108) (tgt := 141) hx hb dX4_taxi_33 (by rw [c_33_8]; decide) (by rw [c_33_8]; decide) (by rw [c_33_8]; rfl) (by decide) ?_
                        refine lv_aload_n hx hb dX4_taxi_141 rfl (lv_at hl 0 rfl) ?_
                        refine lv_iload_n hx hb dX4_taxi_142 rfl (lv_at hl 1 rfl) ?_
                        refine lv_iconst (v := 2) hx hb dX4_taxi_143 (by decide) ?_
                        obtain ⟨v_22, ev_22, hf⟩ := ob hf
                        refine tw_V (some (.int v_22)) (rs := [.int v_22]) (rest := []) (As := [.int x1, .int (2 : Int32)]) X I (mX4_in2 X.2.2.2.2.1 ev_22) lvX4_in2 hdX4_in2 ⟨Nat.le_trans (Nat.le_of_ble_eq_true rfl) hR.1, Nat.le_trans (Nat.le_of_ble_eq_true rfl) hR.2⟩ rfl hl.1 rfl (Nat.le_of_ble_eq_true rfl) rfl dX4_taxi_144 (fun H locs cells slots I => ?_)
                        cases os hf
                        exact r_iret X I dX4_taxi_147
                      · have hf := im c_33_8 hf
                        refine lv_tableOut (tgt := 148) hx hb dX4_taxi_33 (by exact sw_out 0 8 (fun k h1 h2 => by rcases (show k = 0 ∨ k = 1 ∨ k = 2 ∨ k = 3 ∨ k = 4 ∨ k = 5 ∨ k = 6 ∨ k = 7 ∨ k = 8 by omega) with rfl | rfl | rfl | rfl | rfl | rfl | rfl | rfl | rfl; exact c_33_0; exact c_33_1; exact c_33_2; exact c_33_3; exact c_33_4; exact c_33_5; exact c_33_6; exact c_33_7; exact c_33_8)) (by decide) ?_
                        refine lv_aload_n hx hb dX4_taxi_148 rfl (lv_at hl 0 rfl) ?_
                        refine lv_iload_n hx hb dX4_taxi_149 rfl (lv_at hl 1 rfl) ?_
                        refine lv_iconst (v := 3) hx hb dX4_taxi_150 (by decide) ?_
                        obtain ⟨v_24, ev_24, hf⟩ := ob hf
                        refine tw_V (some (.int v_24)) (rs := [.int v_24]) (rest := []) (As := [.int x1, .int (3 : Int32)]) X I (mX4_in2 X.2.2.2.2.1 ev_24) lvX4_in2 hdX4_in2 ⟨Nat.le_trans (Nat.le_of_ble_eq_true rfl) hR.1, Nat.le_trans (Nat.le_of_ble_eq_true rfl) hR.2⟩ rfl hl.1 rfl (Nat.le_of_ble_eq_true rfl) rfl dX4_taxi_151 (fun H locs cells slots I => ?_)
                        cases os hf
                        exact r_iret X I dX4_taxi_154
    · have hf := im c_27 hf
      refine lv_iconst (v := 0) hx hb dX4_taxi_30 (by decide) ?_
      cases os hf
      exact r_iret X I dX4_taxi_31
theorem mX4_taxi {E : EV} {l : Launch} {h : Nat} {S : St} {N : Nat} {σ : TS} {x1 : Int32} {x2 : Int32} {res : (Int32 × TS)} (hE : EK E) (hf : fX4_taxi N σ x1 x2 = some res) : CM E l yX4_taxi (ws_ yX4_taxi cX4_taxi 3 (some .int)) 2 46 [.ref h, .int x1, .int x2] (twS h σ S) (some (.int res.1)) (twS h res.2 S) := by
  refine CM.of hE (by decide) rfl rfl (Nat.le_of_ble_eq_true rfl) ?_
  intro p e s m below meth c X I ls hl
  exact wX4_taxi_0 ⟨Nat.le_refl _, Nat.le_refl _⟩ X N _ _ _ _ _ _ _ _ I hl hf
/-! account(II)I -/
theorem wX4_account_0 {E : EV} {l : Launch} {p : Program} {e : Env} {s : State} {m : MethodId} {args : Array Value} {below : List Frame} {meth : Method} {c : Code} {R : Room} {h : Nat} {S : St} {res : (Int32 × TS)} (hR : 2 ≤ R.frames ∧ 46 ≤ R.locals) (X : MX E p s m args meth c cX4_account 3 (some .int) RX4 "account") : ∀ (x1 : Int32) (x2 : Int32) (σ : TS) (H : Heap) (locs : List Loc) (cells slots : Nat) (ls : Array Slot), WI E R s (twS h σ S) H locs cells slots → lv_has ls 3 [(0, .ref h), (1, .int x1), (2, .int x2)] → fX4_account σ x1 x2 = some res → W p l e R s m args below meth c H locs cells slots (MQ below (Qd E R.cells R.slots (some (.int res.1)) (twS h res.2 S)) args s R.cells R.slots (fr E)) (F0 m 0 ls []) := by
  intro x1 x2 σ H locs cells slots ls I hl hf
  obtain ⟨⟨hx, hb, hml, hown, hts⟩, -⟩ := id X
  unfold fX4_account at hf
  refine lv_aload_n hx hb dX4_account_0 rfl (lv_at hl 0 rfl) ?_
  refine lv_iconst (v := 0) hx hb dX4_account_1 (by decide) ?_
  obtain ⟨σ_1, eσ_1, hf⟩ := ol hf
  refine tw_put X I 0 (ty := .int) (by decide) (by decide) rfl q2687 rfl rfl rfl rfl eσ_1 dX4_account_2 (fun H locs I => ?_)
  refine lv_aload_n hx hb dX4_account_5 rfl (lv_at hl 0 rfl) ?_
  refine lv_iload_n hx hb dX4_account_6 rfl (lv_at hl 1 rfl) ?_
  obtain ⟨v_2, ev_2, hf⟩ := ob hf
  refine tw_V (some (.int v_2.1)) (rs := [.int v_2.1]) (rest := []) (As := [.int x1]) X I (mX4_noTaxi X.2.2.2.2.1 ev_2) lvX4_noTaxi hdX4_noTaxi ⟨Nat.le_trans (Nat.le_of_ble_eq_true rfl) hR.1, Nat.le_trans (Nat.le_of_ble_eq_true rfl) hR.2⟩ rfl hl.1 rfl (Nat.le_of_ble_eq_true rfl) rfl dX4_account_7 (fun H locs cells slots I => ?_)
  refine lv_if_ne (tgt := 30) hx hb dX4_account_10 (by decide) (fun c_10 => ?_) (fun c_10 => ?_)
  · have hf := im c_10 hf
    refine lv_iconst (v := 0) hx hb dX4_account_30 (by decide) ?_
    refine lv_goto (tgt := 42) hx hb dX4_account_31 (by decide) ?_
    cases os hf
    exact r_iret X I dX4_account_42
  · have hf := ip c_10 hf
    refine lv_aload_n hx hb dX4_account_13 rfl (lv_at hl 0 rfl) ?_
    refine lv_iload_n hx hb dX4_account_14 rfl (lv_at hl 2 rfl) ?_
    refine lv_i2l hx hb dX4_account_15 rfl ?_
    refine lv_lconst (v := 0) hx hb dX4_account_16 (by decide) ?_
    refine lv_ldc2 (v := 5) hx hb hown (hts _ q3032) dX4_account_17 ?_
    obtain ⟨v_4, ev_4, hf⟩ := ob hf
    refine tw_S (some (.int v_4)) (rs := [.int v_4, .ref h]) (rest := [.ref h]) (As := [.long (x2.toInt64), .long (0 : Int64), .long (5 : Int64)]) X I (mX4_in X.2.2.2.2.1 ev_4) lvX4_in hdX4_in ⟨Nat.le_trans (Nat.le_of_ble_eq_true rfl) hR.1, Nat.le_trans (Nat.le_of_ble_eq_true rfl) hR.2⟩ rfl hl.1 rfl (Nat.le_of_ble_eq_true rfl) rfl dX4_account_20 (fun H locs cells slots I => ?_)
    refine lv_iconst (v := 1) hx hb dX4_account_23 (by decide) ?_
    obtain ⟨v_6, ev_6, hf⟩ := ob hf
    refine tw_V (some (.int v_6.1)) (rs := [.int v_6.1]) (rest := []) (As := [.int v_4, .int (1 : Int32)]) X I (mX4_fails X.2.2.2.2.1 ev_6) lvX4_fails hdX4_fails ⟨Nat.le_trans (Nat.le_of_ble_eq_true rfl) hR.1, Nat.le_trans (Nat.le_of_ble_eq_true rfl) hR.2⟩ rfl hl.1 rfl (Nat.le_of_ble_eq_true rfl) rfl dX4_account_24 (fun H locs cells slots I => ?_)
    refine lv_if_eq (tgt := 34) hx hb dX4_account_27 (by decide) (fun c_27 => ?_) (fun c_27 => ?_)
    · have hf := ip c_27 hf
      refine lv_aload_n hx hb dX4_account_34 rfl (lv_at hl 0 rfl) ?_
      refine lv_iload_n hx hb dX4_account_35 rfl (lv_at hl 1 rfl) ?_
      refine lv_iconst (v := 5) hx hb dX4_account_36 (by decide) ?_
      refine lv_iload_n hx hb dX4_account_37 rfl (lv_at hl 2 rfl) ?_
      refine lv_iadd hx hb dX4_account_38 ?_
      obtain ⟨v_8, ev_8, hf⟩ := ob hf
      refine tw_V (some (.int v_8)) (rs := [.int v_8]) (rest := []) (As := [.int x1, .int ((5 : Int32) + x2)]) X I (mX4_in2 X.2.2.2.2.1 ev_8) lvX4_in2 hdX4_in2 ⟨Nat.le_trans (Nat.le_of_ble_eq_true rfl) hR.1, Nat.le_trans (Nat.le_of_ble_eq_true rfl) hR.2⟩ rfl hl.1 rfl (Nat.le_of_ble_eq_true rfl) rfl dX4_account_39 (fun H locs cells slots I => ?_)
      cases os hf
      exact r_iret X I dX4_account_42
    · have hf := im c_27 hf
      refine lv_iconst (v := 0) hx hb dX4_account_30 (by decide) ?_
      refine lv_goto (tgt := 42) hx hb dX4_account_31 (by decide) ?_
      cases os hf
      exact r_iret X I dX4_account_42
theorem mX4_account {E : EV} {l : Launch} {h : Nat} {S : St} {σ : TS} {x1 : Int32} {x2 : Int32} {res : (Int32 × TS)} (hE : EK E) (hf : fX4_account σ x1 x2 = some res) : CM E l yX4_account (ws_ yX4_account cX4_account 3 (some .int)) 2 46 [.ref h, .int x1, .int x2] (twS h σ S) (some (.int res.1)) (twS h res.2 S) := by
  refine CM.of hE (by decide) rfl rfl (Nat.le_of_ble_eq_true rfl) ?_
  intro p e s m below meth c X I ls hl
  exact wX4_account_0 ⟨Nat.le_refl _, Nat.le_refl _⟩ X _ _ _ _ _ _ _ _ I hl hf
/-! lists(I)V -/
theorem lvX4_lists : GoodIn lw_all (wsV RX4 301 RX4 yX4_lists (ws_ yX4_lists cX4_lists 3 none)) := lw_V q3037 q3039 qs75 q120 q3040
theorem hdX4_lists : yX4_lists.cls = RX4 ∧ yX4_lists.cls ≠ "java/lang/invoke/MethodHandle" ∧ yX4_lists.cls ≠ "java/lang/invoke/VarHandle" ∧ (parseMethodDescriptor yX4_lists.desc).map (fun d => d.parameters.length) = some 1 := by decide +kernel
theorem wX4_lists_13 {E : EV} {l : Launch} {p : Program} {e : Env} {s : State} {m : MethodId} {args : Array Value} {below : List Frame} {meth : Method} {c : Code} {R : Room} {h : Nat} {S : St} {res : TS} (hR : 1 ≤ R.frames ∧ 22 ≤ R.locals) (X : MX E p s m args meth c cX4_lists 3 none RX4 "lists") (N : Nat) : ∀ (n : Nat) (x1 : Int32) (x2 : Int32) (σ : TS) (H : Heap) (locs : List Loc) (cells slots : Nat) (ls : Array Slot), WI E R s (twS h σ S) H locs cells slots → lv_has ls 3 [(0, .ref h), (1, .int x1), (2, .int x2)] → fX4_lists_13 N n x1 x2 σ = some res → W p l e R s m args below meth c H locs cells slots (MQ below (Qd E R.cells R.slots none (twS h res S)) args s R.cells R.slots (fr E)) (F0 m 13 ls []) := by
  intro n
  induction n with
  | zero => intro x1 x2 σ H locs cells slots ls I hl hf; exact nomatch (show none = some res from hf)
  | succ n ih =>
    intro x1 x2 σ H locs cells slots ls I hl hf
    obtain ⟨⟨hx, hb, hml, hown, hts⟩, -⟩ := id X
    rw [fX4_lists_13.eq_2] at hf
    refine lv_iload_n hx hb dX4_lists_13 rfl (lv_at hl 2 rfl) ?_
    refine lv_aload_n hx hb dX4_lists_14 rfl (lv_at hl 0 rfl) ?_
    refine tw_get X I 39 (v := .int (σ.1 0 39)) (by decide) q2726 rfl dX4_lists_15 ?_
    refine lv_icmp_ge (tgt := 42) hx hb dX4_lists_18 (by decide) (fun c_18 => ?_) (fun c_18 => ?_)
    · have hf := ip c_18 hf
      cases os hf
      exact r_vret X I dX4_lists_42
    · have hf := im c_18 hf
      refine lv_aload_n hx hb dX4_lists_21 rfl (lv_at hl 0 rfl) ?_
      refine tw_get X I 32 (v := .ref (h + 13)) (by decide) q2719 rfl dX4_lists_22 ?_
      refine lv_iload_n hx hb dX4_lists_25 rfl (lv_at hl 2 rfl) ?_
      refine lv_aload_n hx hb dX4_lists_26 rfl (lv_at hl 0 rfl) ?_
      refine lv_iload_n hx hb dX4_lists_27 rfl (lv_at hl 1 rfl) ?_
      refine lv_bipush (v := 12) hx hb dX4_lists_28 (by decide) ?_
      refine lv_iload_n hx hb dX4_lists_30 rfl (lv_at hl 2 rfl) ?_
      refine lv_iadd hx hb dX4_lists_31 ?_
      obtain ⟨v_1, ev_1, hf⟩ := ob hf
      refine tw_V (some (.int v_1)) (rs := [.int v_1, .int x2, .ref (h + 13)]) (rest := [.int x2, .ref (h + 13)]) (As := [.int x1, .int ((12 : Int32) + x2)]) X I (mX4_in2 X.2.2.2.2.1 ev_1) lvX4_in2 hdX4_in2 ⟨Nat.le_trans (Nat.le_of_ble_eq_true rfl) hR.1, Nat.le_trans (Nat.le_of_ble_eq_true rfl) hR.2⟩ rfl hl.1 rfl (Nat.le_of_ble_eq_true rfl) rfl dX4_lists_32 (fun H locs cells slots I => ?_)
      obtain ⟨σ_3, eσ_3, hf⟩ := ob hf
      refine tw_ast X I 13 (by decide) (by decide) (by decide) eσ_3 dX4_lists_35 (fun H locs I => ?_)
      obtain ⟨x2_4, ex2_4, hf⟩ := ol hf
      refine lv_iinc (v := x2_4) (lv' := [(2, .int x2_4), (0, .ref h), (1, .int x1)]) hx hb dX4_lists_36 hl (k := 2) rfl ex2_4 (by decide) rfl (fun ls hl => ?_)
      refine lv_goto (tgt := 13) hx hb dX4_lists_39 (by decide) ?_
      exact ih _ _ _ _ _ _ _ _ I (lv_sub hl [1, 2, 0] rfl) hf
theorem wX4_lists_0 {E : EV} {l : Launch} {p : Program} {e : Env} {s : State} {m : MethodId} {args : Array Value} {below : List Frame} {meth : Method} {c : Code} {R : Room} {h : Nat} {S : St} {res : TS} (hR : 1 ≤ R.frames ∧ 22 ≤ R.locals) (X : MX E p s m args meth c cX4_lists 3 none RX4 "lists") (N : Nat) : ∀ (x1 : Int32) (σ : TS) (H : Heap) (locs : List Loc) (cells slots : Nat) (ls : Array Slot), WI E R s (twS h σ S) H locs cells slots → lv_has ls 3 [(0, .ref h), (1, .int x1)] → fX4_lists N σ x1 = some res → W p l e R s m args below meth c H locs cells slots (MQ below (Qd E R.cells R.slots none (twS h res S)) args s R.cells R.slots (fr E)) (F0 m 0 ls []) := by
  intro x1 σ H locs cells slots ls I hl hf
  obtain ⟨⟨hx, hb, hml, hown, hts⟩, -⟩ := id X
  unfold fX4_lists at hf
  refine lv_aload_n hx hb dX4_lists_0 rfl (lv_at hl 0 rfl) ?_
  refine lv_aload_n hx hb dX4_lists_1 rfl (lv_at hl 0 rfl) ?_
  refine lv_iload_n hx hb dX4_lists_2 rfl (lv_at hl 1 rfl) ?_
  refine lv_bipush (v := 11) hx hb dX4_lists_3 (by decide) ?_
  obtain ⟨v_5, ev_5, hf⟩ := ob hf
  refine tw_V (some (.int v_5)) (rs := [.int v_5, .ref h]) (rest := [.ref h]) (As := [.int x1, .int (11 : Int32)]) X I (mX4_in2 X.2.2.2.2.1 ev_5) lvX4_in2 hdX4_in2 ⟨Nat.le_trans (Nat.le_of_ble_eq_true rfl) hR.1, Nat.le_trans (Nat.le_of_ble_eq_true rfl) hR.2⟩ rfl hl.1 rfl (Nat.le_of_ble_eq_true rfl) rfl dX4_lists_5 (fun H locs cells slots I => ?_)
  obtain ⟨σ_7, eσ_7, hf⟩ := ol hf
  refine tw_put X I 39 (ty := .int) (by decide) (by decide) rfl q2726 rfl rfl rfl rfl eσ_7 dX4_lists_8 (fun H locs I => ?_)
  refine lv_iconst (v := 0) hx hb dX4_lists_11 (by decide) ?_
  refine lv_istore_n (lv' := [(2, .int (0 : Int32)), (0, .ref h), (1, .int x1)]) hx hb dX4_lists_12 rfl hl (by decide) rfl (fun ls hl => ?_)
  exact wX4_lists_13 hR X N N _ _ _ _ _ _ _ _ I (lv_sub hl [1, 2, 0] rfl) hf
theorem mX4_lists {E : EV} {l : Launch} {h : Nat} {S : St} {N : Nat} {σ : TS} {x1 : Int32} {res : TS} (hE : EK E) (hf : fX4_lists N σ x1 = some res) : CM E l yX4_lists (ws_ yX4_lists cX4_lists 3 none) 1 22 [.ref h, .int x1] (twS h σ S) none (twS h res S) := by
  refine CM.of hE (by decide) rfl rfl (Nat.le_of_ble_eq_true rfl) ?_
  intro p e s m below meth c X I ls hl
  exact wX4_lists_0 ⟨Nat.le_refl _, Nat.le_refl _⟩ X N _ _ _ _ _ _ _ I hl hf
/-! zoneOf(I)I -/
theorem lvX4_zoneOf : GoodIn lw_all (wsV RX4 283 RX4 yX4_zoneOf (ws_ yX4_zoneOf cX4_zoneOf 2 (some .int))) := lw_V q3045 q3047 qs77 q120 q3048
theorem hdX4_zoneOf : yX4_zoneOf.cls = RX4 ∧ yX4_zoneOf.cls ≠ "java/lang/invoke/MethodHandle" ∧ yX4_zoneOf.cls ≠ "java/lang/invoke/VarHandle" ∧ (parseMethodDescriptor yX4_zoneOf.desc).map (fun d => d.parameters.length) = some 1 := by decide +kernel
theorem wX4_zoneOf_16 {E : EV} {l : Launch} {p : Program} {e : Env} {s : State} {m : MethodId} {args : Array Value} {below : List Frame} {meth : Method} {c : Code} {R : Room} {h : Nat} {S : St} {σ : TS} {res : Int32} (hR : 1 ≤ R.frames ∧ 22 ≤ R.locals) (X : MX E p s m args meth c cX4_zoneOf 2 (some .int) RX4 "zoneOf") : ∀ (y1 : Int32) (y2 : Int32) (H : Heap) (locs : List Loc) (cells slots : Nat) (ls : Array Slot), WI E R s (twS h σ S) H locs cells slots → lv_has ls 2 [(0, .ref h)] → fX4_zoneOf_16 σ y1 y2 = some res → W p l e R s m args below meth c H locs cells slots (MQ below (Qd E R.cells R.slots (some (.int res)) (twS h σ S)) args s R.cells R.slots (fr E)) (F0 m 16 ls [.int y2, .int y1, .ref h]) := by
  intro y1 y2 H locs cells slots ls I hl hf
  obtain ⟨⟨hx, hb, hml, hown, hts⟩, -⟩ := id X
  unfold fX4_zoneOf_16 at hf
  obtain ⟨v_1, ev_1, hf⟩ := ob hf
  refine tw_V (some (.int v_1)) (rs := [.int v_1]) (rest := []) (As := [.int y1, .int y2]) X I (mX4_of X.2.2.2.2.1 ev_1) lvX4_of hdX4_of ⟨Nat.le_trans (Nat.le_of_ble_eq_true rfl) hR.1, Nat.le_trans (Nat.le_of_ble_eq_true rfl) hR.2⟩ rfl hl.1 rfl (Nat.le_of_ble_eq_true rfl) rfl dX4_zoneOf_16 (fun H locs cells slots I => ?_)
  cases os hf
  exact r_iret X I dX4_zoneOf_19
theorem wX4_zoneOf_0 {E : EV} {l : Launch} {p : Program} {e : Env} {s : State} {m : MethodId} {args : Array Value} {below : List Frame} {meth : Method} {c : Code} {R : Room} {h : Nat} {S : St} {σ : TS} {res : Int32} (hR : 1 ≤ R.frames ∧ 22 ≤ R.locals) (X : MX E p s m args meth c cX4_zoneOf 2 (some .int) RX4 "zoneOf") : ∀ (x1 : Int32) (H : Heap) (locs : List Loc) (cells slots : Nat) (ls : Array Slot), WI E R s (twS h σ S) H locs cells slots → lv_has ls 2 [(0, .ref h), (1, .int x1)] → fX4_zoneOf σ x1 = some res → W p l e R s m args below meth c H locs cells slots (MQ below (Qd E R.cells R.slots (some (.int res)) (twS h σ S)) args s R.cells R.slots (fr E)) (F0 m 0 ls []) := by
  intro x1 H locs cells slots ls I hl hf
  obtain ⟨⟨hx, hb, hml, hown, hts⟩, -⟩ := id X
  unfold fX4_zoneOf at hf
  refine lv_aload_n hx hb dX4_zoneOf_0 rfl (lv_at hl 0 rfl) ?_
  refine lv_iload_n hx hb dX4_zoneOf_1 rfl (lv_at hl 1 rfl) ?_
  refine lv_iconst (v := 2) hx hb dX4_zoneOf_2 (by decide) ?_
  refine lv_idiv hx hb dX4_zoneOf_3 (by decide) ?_
  refine lv_iload_n hx hb dX4_zoneOf_4 rfl (lv_at hl 1 rfl) ?_
  refine lv_iconst (v := 1) hx hb dX4_zoneOf_5 (by decide) ?_
  refine lv_iand hx hb dX4_zoneOf_6 ?_
  refine lv_iconst (v := 1) hx hb dX4_zoneOf_7 (by decide) ?_
  refine lv_icmp_ne (tgt := 15) hx hb dX4_zoneOf_8 (by decide) (fun c_8 => ?_) (fun c_8 => ?_)
  · have hf := im c_8 hf
    refine lv_iconst (v := 2) hx hb dX4_zoneOf_15 (by decide) ?_
    exact wX4_zoneOf_16 hR X _ _ _ _ _ _ _ I (lv_sub hl [0] rfl) hf
  · have hf := ip c_8 hf
    refine lv_iconst (v := 1) hx hb dX4_zoneOf_11 (by decide) ?_
    refine lv_goto (tgt := 16) hx hb dX4_zoneOf_12 (by decide) ?_
    exact wX4_zoneOf_16 hR X _ _ _ _ _ _ _ I (lv_sub hl [0] rfl) hf
theorem mX4_zoneOf {E : EV} {l : Launch} {h : Nat} {S : St} {σ : TS} {x1 : Int32} {res : Int32} (hE : EK E) (hf : fX4_zoneOf σ x1 = some res) : CM E l yX4_zoneOf (ws_ yX4_zoneOf cX4_zoneOf 2 (some .int)) 1 22 [.ref h, .int x1] (twS h σ S) (some (.int res)) (twS h σ S) := by
  refine CM.of hE (by decide) rfl rfl (Nat.le_of_ble_eq_true rfl) ?_
  intro p e s m below meth c X I ls hl
  exact wX4_zoneOf_0 ⟨Nat.le_refl _, Nat.le_refl _⟩ X _ _ _ _ _ _ I hl hf
/-! greater(II)I -/
theorem lvX4_greater : GoodIn lw_all (va_wsS RX4 289 yX4_greater (ws_ yX4_greater cX4_greater 2 (some .int))) := lw_S q3049 q3050 q120 q3051
theorem hdX4_greater : yX4_greater.cls ≠ "java/lang/invoke/MethodHandle" ∧ yX4_greater.cls ≠ "java/lang/invoke/VarHandle" ∧ (parseMethodDescriptor yX4_greater.desc).map (fun d => d.parameters.length) = some 2 := by decide +kernel
theorem wX4_greater_0 {E : EV} {l : Launch} {p : Program} {e : Env} {s : State} {m : MethodId} {args : Array Value} {below : List Frame} {meth : Method} {c : Code} {R : Room} {σ : St} {res : Int32} (hR : 0 ≤ R.frames ∧ 0 ≤ R.locals) (X : MX E p s m args meth c cX4_greater 2 (some .int) RX4 "greater") : ∀ (x0 : Int32) (x1 : Int32) (H : Heap) (locs : List Loc) (cells slots : Nat) (ls : Array Slot), WI E R s σ H locs cells slots → lv_has ls 2 [(0, .int x0), (1, .int x1)] → fX4_greater x0 x1 = some res → W p l e R s m args below meth c H locs cells slots (MQ below (Qd E R.cells R.slots (some (.int res)) σ) args s R.cells R.slots (fr E)) (F0 m 0 ls []) := by
  intro x0 x1 H locs cells slots ls I hl hf
  obtain ⟨⟨hx, hb, hml, hown, hts⟩, -⟩ := id X
  unfold fX4_greater at hf
  refine lv_iload_n hx hb dX4_greater_0 rfl (lv_at hl 0 rfl) ?_
  refine lv_iload_n hx hb dX4_greater_1 rfl (lv_at hl 1 rfl) ?_
  refine lv_icmp_le (tgt := 9) hx hb dX4_greater_2 (by decide) (fun c_2 => ?_) (fun c_2 => ?_)
  · have hf := ip c_2 hf
    refine lv_iload_n hx hb dX4_greater_9 rfl (lv_at hl 1 rfl) ?_
    cases os hf
    exact r_iret X I dX4_greater_10
  · have hf := im c_2 hf
    refine lv_iload_n hx hb dX4_greater_5 rfl (lv_at hl 0 rfl) ?_
    refine lv_goto (tgt := 10) hx hb dX4_greater_6 (by decide) ?_
    cases os hf
    exact r_iret X I dX4_greater_10
theorem mX4_greater {E : EV} {l : Launch} {σ : St} {x0 : Int32} {x1 : Int32} {res : Int32} (hE : EK E) (hf : fX4_greater x0 x1 = some res) : CM E l yX4_greater (ws_ yX4_greater cX4_greater 2 (some .int)) 0 0 [.int x0, .int x1] σ (some (.int res)) σ := by
  refine CM.of hE (by decide) rfl rfl (Nat.le_of_ble_eq_true rfl) ?_
  intro p e s m below meth c X I ls hl
  exact wX4_greater_0 ⟨Nat.le_refl _, Nat.le_refl _⟩ X _ _ _ _ _ _ _ I hl hf
