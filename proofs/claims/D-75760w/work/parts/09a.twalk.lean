set_option maxRecDepth 100000
/-! begins(I)V -/
theorem lvX4_begins : GoodIn lw_all (wsV RX4 87 RX4 yX4_begins (ws_ yX4_begins cX4_begins 3 none)) := lw_V q2675 q2677 qs44 q120 q2678
theorem hdX4_begins : yX4_begins.cls = RX4 ∧ yX4_begins.cls ≠ "java/lang/invoke/MethodHandle" ∧ yX4_begins.cls ≠ "java/lang/invoke/VarHandle" ∧ (parseMethodDescriptor yX4_begins.desc).map (fun d => d.parameters.length) = some 1 := by decide +kernel
theorem wX4_begins_43 {E : EV} {l : Launch} {p : Program} {e : Env} {s : State} {m : MethodId} {args : Array Value} {below : List Frame} {meth : Method} {c : Code} {R : Room} {h : Nat} {S : St} {res : TS} (hR : 0 ≤ R.frames ∧ 0 ≤ R.locals) (X : MX E p s m args meth c cX4_begins 3 none RX4 "begins") (N : Nat) : ∀ (n : Nat) (x2 : Int32) (σ : TS) (H : Heap) (locs : List Loc) (cells slots : Nat) (ls : Array Slot), WI E R s (twS h σ S) H locs cells slots → lv_has ls 3 [(0, .ref h), (2, .int x2)] → fX4_begins_43 N n x2 σ = some res → W p l e R s m args below meth c H locs cells slots (MQ below (Qd E R.cells R.slots none (twS h res S)) args s R.cells R.slots (fr E)) (F0 m 43 ls []) := by
  intro n
  induction n with
  | zero => intro x2 σ H locs cells slots ls I hl hf; exact nomatch (show none = some res from hf)
  | succ n ih =>
    intro x2 σ H locs cells slots ls I hl hf
    obtain ⟨⟨hx, hb, hml, hown, hts⟩, -⟩ := id X
    rw [fX4_begins_43.eq_2] at hf
    refine lv_iload_n hx hb dX4_begins_43 rfl (lv_at hl 1 rfl) ?_
    refine lv_sipush (v := 581) hx hb dX4_begins_44 (by decide) ?_
    refine lv_icmp_ge (tgt := 63) hx hb dX4_begins_47 (by decide) (fun c_47 => ?_) (fun c_47 => ?_)
    · have hf := ip c_47 hf
      refine lv_aload_n hx hb dX4_begins_63 rfl (lv_at hl 0 rfl) ?_
      refine tw_get X I 2 (v := .ref (h + 2)) (by decide) q2689 rfl dX4_begins_64 ?_
      refine lv_iconst (v := 3) hx hb dX4_begins_67 (by decide) ?_
      refine lv_bipush (v := 15) hx hb dX4_begins_68 (by decide) ?_
      obtain ⟨σ_1, eσ_1, hf⟩ := ob hf
      refine tw_ast X I 2 (by decide) (by decide) (by decide) eσ_1 dX4_begins_70 (fun H locs I => ?_)
      refine lv_aload_n hx hb dX4_begins_71 rfl (lv_at hl 0 rfl) ?_
      refine tw_get X I 2 (v := .ref (h + 2)) (by decide) q2689 rfl dX4_begins_72 ?_
      refine lv_iconst (v := 4) hx hb dX4_begins_75 (by decide) ?_
      refine lv_iconst (v := 1) hx hb dX4_begins_76 (by decide) ?_
      obtain ⟨σ_2, eσ_2, hf⟩ := ob hf
      refine tw_ast X I 2 (by decide) (by decide) (by decide) eσ_2 dX4_begins_77 (fun H locs I => ?_)
      refine lv_aload_n hx hb dX4_begins_78 rfl (lv_at hl 0 rfl) ?_
      refine tw_get X I 2 (v := .ref (h + 2)) (by decide) q2689 rfl dX4_begins_79 ?_
      refine lv_iconst (v := 5) hx hb dX4_begins_82 (by decide) ?_
      refine lv_iconst (v := 5) hx hb dX4_begins_83 (by decide) ?_
      obtain ⟨σ_3, eσ_3, hf⟩ := ob hf
      refine tw_ast X I 2 (by decide) (by decide) (by decide) eσ_3 dX4_begins_84 (fun H locs I => ?_)
      refine lv_aload_n hx hb dX4_begins_85 rfl (lv_at hl 0 rfl) ?_
      refine tw_get X I 2 (v := .ref (h + 2)) (by decide) q2689 rfl dX4_begins_86 ?_
      refine lv_bipush (v := 6) hx hb dX4_begins_89 (by decide) ?_
      refine lv_iconst (v := 3) hx hb dX4_begins_91 (by decide) ?_
      obtain ⟨σ_4, eσ_4, hf⟩ := ob hf
      refine tw_ast X I 2 (by decide) (by decide) (by decide) eσ_4 dX4_begins_92 (fun H locs I => ?_)
      refine lv_aload_n hx hb dX4_begins_93 rfl (lv_at hl 0 rfl) ?_
      refine tw_get X I 2 (v := .ref (h + 2)) (by decide) q2689 rfl dX4_begins_94 ?_
      refine lv_bipush (v := 8) hx hb dX4_begins_97 (by decide) ?_
      refine lv_sipush (v := 240) hx hb dX4_begins_99 (by decide) ?_
      obtain ⟨σ_5, eσ_5, hf⟩ := ob hf
      refine tw_ast X I 2 (by decide) (by decide) (by decide) eσ_5 dX4_begins_102 (fun H locs I => ?_)
      refine lv_aload_n hx hb dX4_begins_103 rfl (lv_at hl 0 rfl) ?_
      refine tw_get X I 2 (v := .ref (h + 2)) (by decide) q2689 rfl dX4_begins_104 ?_
      refine lv_bipush (v := 9) hx hb dX4_begins_107 (by decide) ?_
      refine lv_bipush (v := 30) hx hb dX4_begins_109 (by decide) ?_
      obtain ⟨σ_6, eσ_6, hf⟩ := ob hf
      refine tw_ast X I 2 (by decide) (by decide) (by decide) eσ_6 dX4_begins_111 (fun H locs I => ?_)
      cases os hf
      exact r_vret X I dX4_begins_112
    · have hf := im c_47 hf
      refine lv_aload_n hx hb dX4_begins_50 rfl (lv_at hl 0 rfl) ?_
      refine tw_get X I 2 (v := .ref (h + 2)) (by decide) q2689 rfl dX4_begins_51 ?_
      refine lv_iload_n hx hb dX4_begins_54 rfl (lv_at hl 1 rfl) ?_
      refine lv_iconst (v := 0) hx hb dX4_begins_55 (by decide) ?_
      obtain ⟨σ_7, eσ_7, hf⟩ := ob hf
      refine tw_ast X I 2 (by decide) (by decide) (by decide) eσ_7 dX4_begins_56 (fun H locs I => ?_)
      obtain ⟨x2_8, ex2_8, hf⟩ := ol hf
      refine lv_iinc (v := x2_8) (lv' := [(2, .int x2_8), (0, .ref h)]) hx hb dX4_begins_57 hl (k := 1) rfl ex2_8 (by decide) rfl (fun ls hl => ?_)
      refine lv_goto (tgt := 43) hx hb dX4_begins_60 (by decide) ?_
      exact ih _ _ _ _ _ _ _ I (lv_sub hl [1, 0] rfl) hf
theorem wX4_begins_22 {E : EV} {l : Launch} {p : Program} {e : Env} {s : State} {m : MethodId} {args : Array Value} {below : List Frame} {meth : Method} {c : Code} {R : Room} {h : Nat} {S : St} {res : TS} (hR : 0 ≤ R.frames ∧ 0 ≤ R.locals) (X : MX E p s m args meth c cX4_begins 3 none RX4 "begins") (N : Nat) : ∀ (n : Nat) (x2 : Int32) (σ : TS) (H : Heap) (locs : List Loc) (cells slots : Nat) (ls : Array Slot), WI E R s (twS h σ S) H locs cells slots → lv_has ls 3 [(0, .ref h), (2, .int x2)] → fX4_begins_22 N n x2 σ = some res → W p l e R s m args below meth c H locs cells slots (MQ below (Qd E R.cells R.slots none (twS h res S)) args s R.cells R.slots (fr E)) (F0 m 22 ls []) := by
  intro n
  induction n with
  | zero => intro x2 σ H locs cells slots ls I hl hf; exact nomatch (show none = some res from hf)
  | succ n ih =>
    intro x2 σ H locs cells slots ls I hl hf
    obtain ⟨⟨hx, hb, hml, hown, hts⟩, -⟩ := id X
    rw [fX4_begins_22.eq_2] at hf
    refine lv_iload_n hx hb dX4_begins_22 rfl (lv_at hl 1 rfl) ?_
    refine lv_bipush (v := 64) hx hb dX4_begins_23 (by decide) ?_
    refine lv_icmp_ge (tgt := 41) hx hb dX4_begins_25 (by decide) (fun c_25 => ?_) (fun c_25 => ?_)
    · have hf := ip c_25 hf
      refine lv_iconst (v := 0) hx hb dX4_begins_41 (by decide) ?_
      refine lv_istore_n (lv' := [(2, .int (0 : Int32)), (0, .ref h)]) hx hb dX4_begins_42 rfl hl (by decide) rfl (fun ls hl => ?_)
      exact wX4_begins_43 hR X N N _ _ _ _ _ _ _ I (lv_sub hl [1, 0] rfl) hf
    · have hf := im c_25 hf
      refine lv_aload_n hx hb dX4_begins_28 rfl (lv_at hl 0 rfl) ?_
      refine tw_get X I 11 (v := .ref (h + 5)) (by decide) q2698 rfl dX4_begins_29 ?_
      refine lv_iload_n hx hb dX4_begins_32 rfl (lv_at hl 1 rfl) ?_
      refine lv_iconst (v := (-1)) hx hb dX4_begins_33 (by decide) ?_
      obtain ⟨σ_9, eσ_9, hf⟩ := ob hf
      refine tw_ast X I 5 (by decide) (by decide) (by decide) eσ_9 dX4_begins_34 (fun H locs I => ?_)
      obtain ⟨x2_10, ex2_10, hf⟩ := ol hf
      refine lv_iinc (v := x2_10) (lv' := [(2, .int x2_10), (0, .ref h)]) hx hb dX4_begins_35 hl (k := 1) rfl ex2_10 (by decide) rfl (fun ls hl => ?_)
      refine lv_goto (tgt := 22) hx hb dX4_begins_38 (by decide) ?_
      exact ih _ _ _ _ _ _ _ I (lv_sub hl [1, 0] rfl) hf
theorem wX4_begins_0 {E : EV} {l : Launch} {p : Program} {e : Env} {s : State} {m : MethodId} {args : Array Value} {below : List Frame} {meth : Method} {c : Code} {R : Room} {h : Nat} {S : St} {res : TS} (hR : 0 ≤ R.frames ∧ 0 ≤ R.locals) (X : MX E p s m args meth c cX4_begins 3 none RX4 "begins") (N : Nat) : ∀ (x1 : Int32) (σ : TS) (H : Heap) (locs : List Loc) (cells slots : Nat) (ls : Array Slot), WI E R s (twS h σ S) H locs cells slots → lv_has ls 3 [(0, .ref h), (1, .int x1)] → fX4_begins N σ x1 = some res → W p l e R s m args below meth c H locs cells slots (MQ below (Qd E R.cells R.slots none (twS h res S)) args s R.cells R.slots (fr E)) (F0 m 0 ls []) := by
  intro x1 σ H locs cells slots ls I hl hf
  obtain ⟨⟨hx, hb, hml, hown, hts⟩, -⟩ := id X
  unfold fX4_begins at hf
  refine lv_aload_n hx hb dX4_begins_0 rfl (lv_at hl 0 rfl) ?_
  refine lv_iload_n hx hb dX4_begins_1 rfl (lv_at hl 1 rfl) ?_
  obtain ⟨σ_11, eσ_11, hf⟩ := ol hf
  refine tw_put X I 7 (ty := .int) (by decide) (by decide) rfl q2694 rfl rfl rfl rfl eσ_11 dX4_begins_2 (fun H locs I => ?_)
  refine lv_aload_n hx hb dX4_begins_5 rfl (lv_at hl 0 rfl) ?_
  refine lv_iconst (v := 0) hx hb dX4_begins_6 (by decide) ?_
  obtain ⟨σ_12, eσ_12, hf⟩ := ol hf
  refine tw_put X I 8 (ty := .int) (by decide) (by decide) rfl q2695 rfl rfl rfl rfl eσ_12 dX4_begins_7 (fun H locs I => ?_)
  refine lv_aload_n hx hb dX4_begins_10 rfl (lv_at hl 0 rfl) ?_
  refine lv_iconst (v := 0) hx hb dX4_begins_11 (by decide) ?_
  obtain ⟨σ_13, eσ_13, hf⟩ := ol hf
  refine tw_put X I 9 (ty := .int) (by decide) (by decide) rfl q2696 rfl rfl rfl rfl eσ_13 dX4_begins_12 (fun H locs I => ?_)
  refine lv_aload_n hx hb dX4_begins_15 rfl (lv_at hl 0 rfl) ?_
  refine lv_iconst (v := 0) hx hb dX4_begins_16 (by decide) ?_
  obtain ⟨σ_14, eσ_14, hf⟩ := ol hf
  refine tw_put X I 10 (ty := .int) (by decide) (by decide) rfl q2697 rfl rfl rfl rfl eσ_14 dX4_begins_17 (fun H locs I => ?_)
  refine lv_iconst (v := 0) hx hb dX4_begins_20 (by decide) ?_
  refine lv_istore_n (lv' := [(2, .int (0 : Int32)), (0, .ref h), (1, .int x1)]) hx hb dX4_begins_21 rfl hl (by decide) rfl (fun ls hl => ?_)
  exact wX4_begins_22 hR X N N _ _ _ _ _ _ _ I (lv_sub hl [1, 0] rfl) hf
theorem mX4_begins {E : EV} {l : Launch} {h : Nat} {S : St} {N : Nat} {σ : TS} {x1 : Int32} {res : TS} (hE : EK E) (hf : fX4_begins N σ x1 = some res) : CM E l yX4_begins (ws_ yX4_begins cX4_begins 3 none) 0 0 [.ref h, .int x1] (twS h σ S) none (twS h res S) := by
  refine CM.of hE (by decide) rfl rfl (Nat.le_of_ble_eq_true rfl) ?_
  intro p e s m below meth c X I ls hl
  exact wX4_begins_0 ⟨Nat.le_refl _, Nat.le_refl _⟩ X N _ _ _ _ _ _ _ I hl hf
/-! laysWays()V -/
theorem lvX4_laysWays : GoodIn lw_all (wsV RX4 120 RX4 yX4_laysWays (ws_ yX4_laysWays cX4_laysWays 7 none)) := lw_V q2683 q2685 qs46 q120 q2686
theorem hdX4_laysWays : yX4_laysWays.cls = RX4 ∧ yX4_laysWays.cls ≠ "java/lang/invoke/MethodHandle" ∧ yX4_laysWays.cls ≠ "java/lang/invoke/VarHandle" ∧ (parseMethodDescriptor yX4_laysWays.desc).map (fun d => d.parameters.length) = some 0 := by decide +kernel
theorem wX4_laysWays_110 {E : EV} {l : Launch} {p : Program} {e : Env} {s : State} {m : MethodId} {args : Array Value} {below : List Frame} {meth : Method} {c : Code} {R : Room} {h : Nat} {S : St} {res : TS} (hR : 0 ≤ R.frames ∧ 0 ≤ R.locals) (X : MX E p s m args meth c cX4_laysWays 7 none RX4 "laysWays") (N : Nat) (r2 : Int32 → TS → Option TS) (hr2 : ∀ (x1 : Int32) (σ : TS) (H : Heap) (locs : List Loc) (cells slots : Nat) (ls : Array Slot), WI E R s (twS h σ S) H locs cells slots → lv_has ls 7 [(0, .ref h), (1, .int x1)] → r2 x1 σ = some res → W p l e R s m args below meth c H locs cells slots (MQ below (Qd E R.cells R.slots none (twS h res S)) args s R.cells R.slots (fr E)) (F0 m 2 ls [])) (r12 : Int32 → Int32 → TS → Option TS) (hr12 : ∀ (x1 : Int32) (x2 : Int32) (σ : TS) (H : Heap) (locs : List Loc) (cells slots : Nat) (ls : Array Slot), WI E R s (twS h σ S) H locs cells slots → lv_has ls 7 [(0, .ref h), (1, .int x1), (2, .int x2)] → r12 x1 x2 σ = some res → W p l e R s m args below meth c H locs cells slots (MQ below (Qd E R.cells R.slots none (twS h res S)) args s R.cells R.slots (fr E)) (F0 m 12 ls [])) (r22 : Int32 → Int32 → Int32 → TS → Option TS) (hr22 : ∀ (x1 : Int32) (x2 : Int32) (x3 : Int32) (σ : TS) (H : Heap) (locs : List Loc) (cells slots : Nat) (ls : Array Slot), WI E R s (twS h σ S) H locs cells slots → lv_has ls 7 [(0, .ref h), (1, .int x1), (2, .int x2), (3, .int x3)] → r22 x1 x2 x3 σ = some res → W p l e R s m args below meth c H locs cells slots (MQ below (Qd E R.cells R.slots none (twS h res S)) args s R.cells R.slots (fr E)) (F0 m 22 ls [])) : ∀ (x1 : Int32) (x2 : Int32) (x3 : Int32) (σ : TS) (H : Heap) (locs : List Loc) (cells slots : Nat) (ls : Array Slot), WI E R s (twS h σ S) H locs cells slots → lv_has ls 7 [(0, .ref h), (1, .int x1), (2, .int x2), (3, .int x3)] → fX4_laysWays_110 N r2 r12 r22 x1 x2 x3 σ = some res → W p l e R s m args below meth c H locs cells slots (MQ below (Qd E R.cells R.slots none (twS h res S)) args s R.cells R.slots (fr E)) (F0 m 110 ls []) := by
  intro x1 x2 x3 σ H locs cells slots ls I hl hf
  obtain ⟨⟨hx, hb, hml, hown, hts⟩, -⟩ := id X
  unfold fX4_laysWays_110 at hf
  obtain ⟨x3_1, ex3_1, hf⟩ := ol hf
  refine lv_iinc (v := x3_1) (lv' := [(3, .int x3_1), (0, .ref h), (1, .int x1), (2, .int x2)]) hx hb dX4_laysWays_110 hl (k := 3) rfl ex3_1 (by decide) rfl (fun ls hl => ?_)
  refine lv_goto (tgt := 22) hx hb dX4_laysWays_113 (by decide) ?_
  exact hr22 _ _ _ _ _ _ _ _ _ I (lv_sub hl [1, 2, 3, 0] rfl) hf
theorem wX4_laysWays_94 {E : EV} {l : Launch} {p : Program} {e : Env} {s : State} {m : MethodId} {args : Array Value} {below : List Frame} {meth : Method} {c : Code} {R : Room} {h : Nat} {S : St} {res : TS} (hR : 0 ≤ R.frames ∧ 0 ≤ R.locals) (X : MX E p s m args meth c cX4_laysWays 7 none RX4 "laysWays") (N : Nat) (r2 : Int32 → TS → Option TS) (hr2 : ∀ (x1 : Int32) (σ : TS) (H : Heap) (locs : List Loc) (cells slots : Nat) (ls : Array Slot), WI E R s (twS h σ S) H locs cells slots → lv_has ls 7 [(0, .ref h), (1, .int x1)] → r2 x1 σ = some res → W p l e R s m args below meth c H locs cells slots (MQ below (Qd E R.cells R.slots none (twS h res S)) args s R.cells R.slots (fr E)) (F0 m 2 ls [])) (r12 : Int32 → Int32 → TS → Option TS) (hr12 : ∀ (x1 : Int32) (x2 : Int32) (σ : TS) (H : Heap) (locs : List Loc) (cells slots : Nat) (ls : Array Slot), WI E R s (twS h σ S) H locs cells slots → lv_has ls 7 [(0, .ref h), (1, .int x1), (2, .int x2)] → r12 x1 x2 σ = some res → W p l e R s m args below meth c H locs cells slots (MQ below (Qd E R.cells R.slots none (twS h res S)) args s R.cells R.slots (fr E)) (F0 m 12 ls [])) (r22 : Int32 → Int32 → Int32 → TS → Option TS) (hr22 : ∀ (x1 : Int32) (x2 : Int32) (x3 : Int32) (σ : TS) (H : Heap) (locs : List Loc) (cells slots : Nat) (ls : Array Slot), WI E R s (twS h σ S) H locs cells slots → lv_has ls 7 [(0, .ref h), (1, .int x1), (2, .int x2), (3, .int x3)] → r22 x1 x2 x3 σ = some res → W p l e R s m args below meth c H locs cells slots (MQ below (Qd E R.cells R.slots none (twS h res S)) args s R.cells R.slots (fr E)) (F0 m 22 ls [])) : ∀ (x1 : Int32) (x2 : Int32) (x3 : Int32) (x4 : Int32) (x5 : Int32) (σ : TS) (H : Heap) (locs : List Loc) (cells slots : Nat) (ls : Array Slot), WI E R s (twS h σ S) H locs cells slots → lv_has ls 7 [(0, .ref h), (1, .int x1), (2, .int x2), (3, .int x3), (4, .int x4), (5, .int x5)] → fX4_laysWays_94 N r2 r12 r22 x1 x2 x3 x4 x5 σ = some res → W p l e R s m args below meth c H locs cells slots (MQ below (Qd E R.cells R.slots none (twS h res S)) args s R.cells R.slots (fr E)) (F0 m 94 ls []) := by
  intro x1 x2 x3 x4 x5 σ H locs cells slots ls I hl hf
  obtain ⟨⟨hx, hb, hml, hown, hts⟩, -⟩ := id X
  unfold fX4_laysWays_94 at hf
  refine lv_aload_n hx hb dX4_laysWays_94 rfl (lv_at hl 0 rfl) ?_
  refine tw_get X I 19 (v := .ref (h + 9)) (by decide) q2706 rfl dX4_laysWays_95 ?_
  refine lv_bipush (v := 8) hx hb dX4_laysWays_98 (by decide) ?_
  refine lv_iload_n hx hb dX4_laysWays_100 rfl (lv_at hl 2 rfl) ?_
  refine lv_imul hx hb dX4_laysWays_101 ?_
  refine lv_iload_n hx hb dX4_laysWays_102 rfl (lv_at hl 3 rfl) ?_
  refine lv_iadd hx hb dX4_laysWays_103 ?_
  refine lv_iload hx hb dX4_laysWays_104 (lv_at hl 4 rfl) ?_
  refine lv_iload hx hb dX4_laysWays_106 (lv_at hl 5 rfl) ?_
  refine lv_iadd hx hb dX4_laysWays_108 ?_
  obtain ⟨σ_2, eσ_2, hf⟩ := ob hf
  refine tw_ast X I 9 (by decide) (by decide) (by decide) eσ_2 dX4_laysWays_109 (fun H locs I => ?_)
  exact wX4_laysWays_110 hR X N r2 hr2 r12 hr12 r22 hr22 _ _ _ _ _ _ _ _ _ I (lv_sub hl [0, 1, 2, 3] rfl) hf
theorem wX4_laysWays_22 {E : EV} {l : Launch} {p : Program} {e : Env} {s : State} {m : MethodId} {args : Array Value} {below : List Frame} {meth : Method} {c : Code} {R : Room} {h : Nat} {S : St} {res : TS} (hR : 0 ≤ R.frames ∧ 0 ≤ R.locals) (X : MX E p s m args meth c cX4_laysWays 7 none RX4 "laysWays") (N : Nat) (r2 : Int32 → TS → Option TS) (hr2 : ∀ (x1 : Int32) (σ : TS) (H : Heap) (locs : List Loc) (cells slots : Nat) (ls : Array Slot), WI E R s (twS h σ S) H locs cells slots → lv_has ls 7 [(0, .ref h), (1, .int x1)] → r2 x1 σ = some res → W p l e R s m args below meth c H locs cells slots (MQ below (Qd E R.cells R.slots none (twS h res S)) args s R.cells R.slots (fr E)) (F0 m 2 ls [])) (r12 : Int32 → Int32 → TS → Option TS) (hr12 : ∀ (x1 : Int32) (x2 : Int32) (σ : TS) (H : Heap) (locs : List Loc) (cells slots : Nat) (ls : Array Slot), WI E R s (twS h σ S) H locs cells slots → lv_has ls 7 [(0, .ref h), (1, .int x1), (2, .int x2)] → r12 x1 x2 σ = some res → W p l e R s m args below meth c H locs cells slots (MQ below (Qd E R.cells R.slots none (twS h res S)) args s R.cells R.slots (fr E)) (F0 m 12 ls [])) : ∀ (n : Nat) (x1 : Int32) (x2 : Int32) (x3 : Int32) (σ : TS) (H : Heap) (locs : List Loc) (cells slots : Nat) (ls : Array Slot), WI E R s (twS h σ S) H locs cells slots → lv_has ls 7 [(0, .ref h), (1, .int x1), (2, .int x2), (3, .int x3)] → fX4_laysWays_22 N r2 r12 n x1 x2 x3 σ = some res → W p l e R s m args below meth c H locs cells slots (MQ below (Qd E R.cells R.slots none (twS h res S)) args s R.cells R.slots (fr E)) (F0 m 22 ls []) := by
  intro n
  induction n with
  | zero => intro x1 x2 x3 σ H locs cells slots ls I hl hf; exact nomatch (show none = some res from hf)
  | succ n ih =>
    intro x1 x2 x3 σ H locs cells slots ls I hl hf
    obtain ⟨⟨hx, hb, hml, hown, hts⟩, -⟩ := id X
    rw [fX4_laysWays_22.eq_2] at hf
    refine lv_iload_n hx hb dX4_laysWays_22 rfl (lv_at hl 3 rfl) ?_
    refine lv_aload_n hx hb dX4_laysWays_23 rfl (lv_at hl 0 rfl) ?_
    refine tw_get X I 15 (v := .int (σ.1 0 15)) (by decide) q2702 rfl dX4_laysWays_24 ?_
    refine lv_icmp_ge (tgt := 116) hx hb dX4_laysWays_27 (by decide) (fun c_27 => ?_) (fun c_27 => ?_)
    · have hf := ip c_27 hf
      obtain ⟨x2_3, ex2_3, hf⟩ := ol hf
      refine lv_iinc (v := x2_3) (lv' := [(2, .int x2_3), (0, .ref h), (1, .int x1), (3, .int x3)]) hx hb dX4_laysWays_116 hl (k := 2) rfl ex2_3 (by decide) rfl (fun ls hl => ?_)
      refine lv_goto (tgt := 12) hx hb dX4_laysWays_119 (by decide) ?_
      exact hr12 _ _ _ _ _ _ _ _ I (lv_sub hl [1, 2, 0] rfl) hf
    · have hf := im c_27 hf
      refine lv_aload_n hx hb dX4_laysWays_30 rfl (lv_at hl 0 rfl) ?_
      refine tw_get X I 19 (v := .ref (h + 9)) (by decide) q2706 rfl dX4_laysWays_31 ?_
      refine lv_bipush (v := 8) hx hb dX4_laysWays_34 (by decide) ?_
      refine lv_iload_n hx hb dX4_laysWays_36 rfl (lv_at hl 2 rfl) ?_
      refine lv_imul hx hb dX4_laysWays_37 ?_
      refine lv_iload_n hx hb dX4_laysWays_38 rfl (lv_at hl 1 rfl) ?_
      refine lv_iadd hx hb dX4_laysWays_39 ?_
      obtain ⟨v_4, ev_4, hf⟩ := ob hf
      refine tw_ald X I 9 (by decide) (by decide) (by decide) ev_4 dX4_laysWays_40 ?_
      refine lv_istore (lv' := [(4, .int v_4), (0, .ref h), (1, .int x1), (2, .int x2), (3, .int x3)]) hx hb dX4_laysWays_41 hl (by decide) rfl (fun ls hl => ?_)
      refine lv_aload_n hx hb dX4_laysWays_43 rfl (lv_at hl 1 rfl) ?_
      refine tw_get X I 19 (v := .ref (h + 9)) (by decide) q2706 rfl dX4_laysWays_44 ?_
      refine lv_bipush (v := 8) hx hb dX4_laysWays_47 (by decide) ?_
      refine lv_iload_n hx hb dX4_laysWays_49 rfl (lv_at hl 2 rfl) ?_
      refine lv_imul hx hb dX4_laysWays_50 ?_
      refine lv_iload_n hx hb dX4_laysWays_51 rfl (lv_at hl 4 rfl) ?_
      refine lv_iadd hx hb dX4_laysWays_52 ?_
      obtain ⟨v_5, ev_5, hf⟩ := ob hf
      refine tw_ald X I 9 (by decide) (by decide) (by decide) ev_5 dX4_laysWays_53 ?_
      refine lv_istore (lv' := [(5, .int v_5), (4, .int v_4), (0, .ref h), (1, .int x1), (2, .int x2), (3, .int x3)]) hx hb dX4_laysWays_54 hl (by decide) rfl (fun ls hl => ?_)
      refine lv_aload_n hx hb dX4_laysWays_56 rfl (lv_at hl 2 rfl) ?_
      refine tw_get X I 19 (v := .ref (h + 9)) (by decide) q2706 rfl dX4_laysWays_57 ?_
      refine lv_bipush (v := 8) hx hb dX4_laysWays_60 (by decide) ?_
      refine lv_iload_n hx hb dX4_laysWays_62 rfl (lv_at hl 4 rfl) ?_
      refine lv_imul hx hb dX4_laysWays_63 ?_
      refine lv_iload_n hx hb dX4_laysWays_64 rfl (lv_at hl 5 rfl) ?_
      refine lv_iadd hx hb dX4_laysWays_65 ?_
      obtain ⟨v_6, ev_6, hf⟩ := ob hf
      refine tw_ald X I 9 (by decide) (by decide) (by decide) ev_6 dX4_laysWays_66 ?_
      refine lv_istore (lv' := [(6, .int v_6), (5, .int v_5), (4, .int v_4), (0, .ref h), (1, .int x1), (2, .int x2), (3, .int x3)]) hx hb dX4_laysWays_67 hl (by decide) rfl (fun ls hl => ?_)
      refine lv_iload hx hb dX4_laysWays_69 (lv_at hl 2 rfl) ?_
      refine lv_if_lt (tgt := 110) hx hb dX4_laysWays_71 (by decide) (fun c_71 => ?_) (fun c_71 => ?_)
      · have hf := ip c_71 hf
        exact wX4_laysWays_110 hR X N r2 hr2 r12 hr12 (fX4_laysWays_22 N r2 r12 n) ih _ _ _ _ _ _ _ _ _ I (lv_sub hl [3, 4, 5, 6] rfl) hf
      · have hf := im c_71 hf
        refine lv_iload hx hb dX4_laysWays_74 (lv_at hl 1 rfl) ?_
        refine lv_if_lt (tgt := 110) hx hb dX4_laysWays_76 (by decide) (fun c_76 => ?_) (fun c_76 => ?_)
        · have hf := ip c_76 hf
          exact wX4_laysWays_110 hR X N r2 hr2 r12 hr12 (fX4_laysWays_22 N r2 r12 n) ih _ _ _ _ _ _ _ _ _ I (lv_sub hl [3, 4, 5, 6] rfl) hf
        · have hf := im c_76 hf
          refine lv_iload hx hb dX4_laysWays_79 (lv_at hl 0 rfl) ?_
          refine lv_if_lt (tgt := 94) hx hb dX4_laysWays_81 (by decide) (fun c_81 => ?_) (fun c_81 => ?_)
          · have hf := ip c_81 hf
            exact wX4_laysWays_94 hR X N r2 hr2 r12 hr12 (fX4_laysWays_22 N r2 r12 n) ih _ _ _ _ _ _ _ _ _ _ _ I (lv_sub hl [3, 4, 5, 6, 2, 1] rfl) hf
          · have hf := im c_81 hf
            refine lv_iload hx hb dX4_laysWays_84 (lv_at hl 2 rfl) ?_
            refine lv_iload hx hb dX4_laysWays_86 (lv_at hl 1 rfl) ?_
            refine lv_iadd hx hb dX4_laysWays_88 ?_
            refine lv_iload hx hb dX4_laysWays_89 (lv_at hl 0 rfl) ?_
            refine lv_icmp_ge (tgt := 110) hx hb dX4_laysWays_91 (by decide) (fun c_91 => ?_) (fun c_91 => ?_)
            · have hf := ip c_91 hf
              exact wX4_laysWays_110 hR X N r2 hr2 r12 hr12 (fX4_laysWays_22 N r2 r12 n) ih _ _ _ _ _ _ _ _ _ I (lv_sub hl [3, 4, 5, 6] rfl) hf
            · have hf := im c_91 hf
              exact wX4_laysWays_94 hR X N r2 hr2 r12 hr12 (fX4_laysWays_22 N r2 r12 n) ih _ _ _ _ _ _ _ _ _ _ _ I (lv_sub hl [3, 4, 5, 6, 2, 1] rfl) hf
theorem wX4_laysWays_12 {E : EV} {l : Launch} {p : Program} {e : Env} {s : State} {m : MethodId} {args : Array Value} {below : List Frame} {meth : Method} {c : Code} {R : Room} {h : Nat} {S : St} {res : TS} (hR : 0 ≤ R.frames ∧ 0 ≤ R.locals) (X : MX E p s m args meth c cX4_laysWays 7 none RX4 "laysWays") (N : Nat) (r2 : Int32 → TS → Option TS) (hr2 : ∀ (x1 : Int32) (σ : TS) (H : Heap) (locs : List Loc) (cells slots : Nat) (ls : Array Slot), WI E R s (twS h σ S) H locs cells slots → lv_has ls 7 [(0, .ref h), (1, .int x1)] → r2 x1 σ = some res → W p l e R s m args below meth c H locs cells slots (MQ below (Qd E R.cells R.slots none (twS h res S)) args s R.cells R.slots (fr E)) (F0 m 2 ls [])) : ∀ (n : Nat) (x1 : Int32) (x2 : Int32) (σ : TS) (H : Heap) (locs : List Loc) (cells slots : Nat) (ls : Array Slot), WI E R s (twS h σ S) H locs cells slots → lv_has ls 7 [(0, .ref h), (1, .int x1), (2, .int x2)] → fX4_laysWays_12 N r2 n x1 x2 σ = some res → W p l e R s m args below meth c H locs cells slots (MQ below (Qd E R.cells R.slots none (twS h res S)) args s R.cells R.slots (fr E)) (F0 m 12 ls []) := by
  intro n
  induction n with
  | zero => intro x1 x2 σ H locs cells slots ls I hl hf; exact nomatch (show none = some res from hf)
  | succ n ih =>
    intro x1 x2 σ H locs cells slots ls I hl hf
    obtain ⟨⟨hx, hb, hml, hown, hts⟩, -⟩ := id X
    rw [fX4_laysWays_12.eq_2] at hf
    refine lv_iload_n hx hb dX4_laysWays_12 rfl (lv_at hl 2 rfl) ?_
    refine lv_aload_n hx hb dX4_laysWays_13 rfl (lv_at hl 0 rfl) ?_
    refine tw_get X I 15 (v := .int (σ.1 0 15)) (by decide) q2702 rfl dX4_laysWays_14 ?_
    refine lv_icmp_ge (tgt := 122) hx hb dX4_laysWays_17 (by decide) (fun c_17 => ?_) (fun c_17 => ?_)
    · have hf := ip c_17 hf
      obtain ⟨x1_7, ex1_7, hf⟩ := ol hf
      refine lv_iinc (v := x1_7) (lv' := [(1, .int x1_7), (0, .ref h), (2, .int x2)]) hx hb dX4_laysWays_122 hl (k := 1) rfl ex1_7 (by decide) rfl (fun ls hl => ?_)
      refine lv_goto (tgt := 2) hx hb dX4_laysWays_125 (by decide) ?_
      exact hr2 _ _ _ _ _ _ _ I (lv_sub hl [1, 0] rfl) hf
    · have hf := im c_17 hf
      refine lv_iconst (v := 0) hx hb dX4_laysWays_20 (by decide) ?_
      refine lv_istore_n (lv' := [(3, .int (0 : Int32)), (0, .ref h), (1, .int x1), (2, .int x2)]) hx hb dX4_laysWays_21 rfl hl (by decide) rfl (fun ls hl => ?_)
      exact wX4_laysWays_22 hR X N r2 hr2 (fX4_laysWays_12 N r2 n) ih N _ _ _ _ _ _ _ _ _ I (lv_sub hl [1, 2, 3, 0] rfl) hf
theorem wX4_laysWays_2 {E : EV} {l : Launch} {p : Program} {e : Env} {s : State} {m : MethodId} {args : Array Value} {below : List Frame} {meth : Method} {c : Code} {R : Room} {h : Nat} {S : St} {res : TS} (hR : 0 ≤ R.frames ∧ 0 ≤ R.locals) (X : MX E p s m args meth c cX4_laysWays 7 none RX4 "laysWays") (N : Nat) : ∀ (n : Nat) (x1 : Int32) (σ : TS) (H : Heap) (locs : List Loc) (cells slots : Nat) (ls : Array Slot), WI E R s (twS h σ S) H locs cells slots → lv_has ls 7 [(0, .ref h), (1, .int x1)] → fX4_laysWays_2 N n x1 σ = some res → W p l e R s m args below meth c H locs cells slots (MQ below (Qd E R.cells R.slots none (twS h res S)) args s R.cells R.slots (fr E)) (F0 m 2 ls []) := by
  intro n
  induction n with
  | zero => intro x1 σ H locs cells slots ls I hl hf; exact nomatch (show none = some res from hf)
  | succ n ih =>
    intro x1 σ H locs cells slots ls I hl hf
    obtain ⟨⟨hx, hb, hml, hown, hts⟩, -⟩ := id X
    rw [fX4_laysWays_2.eq_2] at hf
    refine lv_iload_n hx hb dX4_laysWays_2 rfl (lv_at hl 1 rfl) ?_
    refine lv_aload_n hx hb dX4_laysWays_3 rfl (lv_at hl 0 rfl) ?_
    refine tw_get X I 15 (v := .int (σ.1 0 15)) (by decide) q2702 rfl dX4_laysWays_4 ?_
    refine lv_icmp_ge (tgt := 128) hx hb dX4_laysWays_7 (by decide) (fun c_7 => ?_) (fun c_7 => ?_)
    · have hf := ip c_7 hf
      cases os hf
      exact r_vret X I dX4_laysWays_128
    · have hf := im c_7 hf
      refine lv_iconst (v := 0) hx hb dX4_laysWays_10 (by decide) ?_
      refine lv_istore_n (lv' := [(2, .int (0 : Int32)), (0, .ref h), (1, .int x1)]) hx hb dX4_laysWays_11 rfl hl (by decide) rfl (fun ls hl => ?_)
      exact wX4_laysWays_12 hR X N (fX4_laysWays_2 N n) ih N _ _ _ _ _ _ _ _ I (lv_sub hl [1, 2, 0] rfl) hf
theorem wX4_laysWays_0 {E : EV} {l : Launch} {p : Program} {e : Env} {s : State} {m : MethodId} {args : Array Value} {below : List Frame} {meth : Method} {c : Code} {R : Room} {h : Nat} {S : St} {res : TS} (hR : 0 ≤ R.frames ∧ 0 ≤ R.locals) (X : MX E p s m args meth c cX4_laysWays 7 none RX4 "laysWays") (N : Nat) : ∀ (σ : TS) (H : Heap) (locs : List Loc) (cells slots : Nat) (ls : Array Slot), WI E R s (twS h σ S) H locs cells slots → lv_has ls 7 [(0, .ref h)] → fX4_laysWays N σ = some res → W p l e R s m args below meth c H locs cells slots (MQ below (Qd E R.cells R.slots none (twS h res S)) args s R.cells R.slots (fr E)) (F0 m 0 ls []) := by
  intro σ H locs cells slots ls I hl hf
  obtain ⟨⟨hx, hb, hml, hown, hts⟩, -⟩ := id X
  unfold fX4_laysWays at hf
  refine lv_iconst (v := 0) hx hb dX4_laysWays_0 (by decide) ?_
  refine lv_istore_n (lv' := [(1, .int (0 : Int32)), (0, .ref h)]) hx hb dX4_laysWays_1 rfl hl (by decide) rfl (fun ls hl => ?_)
  exact wX4_laysWays_2 hR X N N _ _ _ _ _ _ _ I (lv_sub hl [1, 0] rfl) hf
theorem mX4_laysWays {E : EV} {l : Launch} {h : Nat} {S : St} {N : Nat} {σ : TS} {res : TS} (hE : EK E) (hf : fX4_laysWays N σ = some res) : CM E l yX4_laysWays (ws_ yX4_laysWays cX4_laysWays 7 none) 0 0 [.ref h] (twS h σ S) none (twS h res S) := by
  refine CM.of hE (by decide) rfl rfl (Nat.le_of_ble_eq_true rfl) ?_
  intro p e s m below meth c X I ls hl
  exact wX4_laysWays_0 ⟨Nat.le_refl _, Nat.le_refl _⟩ X N _ _ _ _ _ _ I hl hf
/-! becomes()V -/
theorem lvX4_becomes : GoodIn lw_all (wsV RX4 90 RX4 yX4_becomes (ws_ yX4_becomes cX4_becomes 2 none)) := lw_V q2679 q2681 qs45 q120 q2682
theorem hdX4_becomes : yX4_becomes.cls = RX4 ∧ yX4_becomes.cls ≠ "java/lang/invoke/MethodHandle" ∧ yX4_becomes.cls ≠ "java/lang/invoke/VarHandle" ∧ (parseMethodDescriptor yX4_becomes.desc).map (fun d => d.parameters.length) = some 0 := by decide +kernel
theorem wX4_becomes_112 {E : EV} {l : Launch} {p : Program} {e : Env} {s : State} {m : MethodId} {args : Array Value} {below : List Frame} {meth : Method} {c : Code} {R : Room} {h : Nat} {S : St} {res : TS} (hR : 1 ≤ R.frames ∧ 26 ≤ R.locals) (X : MX E p s m args meth c cX4_becomes 2 none RX4 "becomes") (N : Nat) : ∀ (n : Nat) (x1 : Int32) (σ : TS) (H : Heap) (locs : List Loc) (cells slots : Nat) (ls : Array Slot), WI E R s (twS h σ S) H locs cells slots → lv_has ls 2 [(0, .ref h), (1, .int x1)] → fX4_becomes_112 N n x1 σ = some res → W p l e R s m args below meth c H locs cells slots (MQ below (Qd E R.cells R.slots none (twS h res S)) args s R.cells R.slots (fr E)) (F0 m 112 ls []) := by
  intro n
  induction n with
  | zero => intro x1 σ H locs cells slots ls I hl hf; exact nomatch (show none = some res from hf)
  | succ n ih =>
    intro x1 σ H locs cells slots ls I hl hf
    obtain ⟨⟨hx, hb, hml, hown, hts⟩, -⟩ := id X
    rw [fX4_becomes_112.eq_2] at hf
    refine lv_iload_n hx hb dX4_becomes_112 rfl (lv_at hl 1 rfl) ?_
    refine lv_sipush (v := 581) hx hb dX4_becomes_113 (by decide) ?_
    refine lv_icmp_ge (tgt := 137) hx hb dX4_becomes_116 (by decide) (fun c_116 => ?_) (fun c_116 => ?_)
    · have hf := ip c_116 hf
      refine lv_aload_n hx hb dX4_becomes_137 rfl (lv_at hl 0 rfl) ?_
      obtain ⟨σ_2, eσ_2, hf⟩ := ob hf
      refine tw_V none (rs := []) (rest := []) (As := []) X I (mX4_laysWays X.2.2.2.2.1 eσ_2) lvX4_laysWays hdX4_laysWays ⟨Nat.le_trans (Nat.le_of_ble_eq_true rfl) hR.1, Nat.le_trans (Nat.le_of_ble_eq_true rfl) hR.2⟩ rfl hl.1 rfl (Nat.le_of_ble_eq_true rfl) rfl dX4_becomes_138 (fun H locs cells slots I => ?_)
      refine lv_aload_n hx hb dX4_becomes_141 rfl (lv_at hl 0 rfl) ?_
      refine lv_iconst (v := 0) hx hb dX4_becomes_142 (by decide) ?_
      obtain ⟨σ_3, eσ_3, hf⟩ := ol hf
      refine tw_put X I 6 (ty := .int) (by decide) (by decide) rfl q2693 rfl rfl rfl rfl eσ_3 dX4_becomes_143 (fun H locs I => ?_)
      refine lv_aload_n hx hb dX4_becomes_146 rfl (lv_at hl 0 rfl) ?_
      refine lv_iconst (v := 0) hx hb dX4_becomes_147 (by decide) ?_
      obtain ⟨σ_4, eσ_4, hf⟩ := ol hf
      refine tw_put X I 5 (ty := .boolean) (by decide) (by decide) rfl q2692 rfl rfl rfl rfl eσ_4 dX4_becomes_148 (fun H locs I => ?_)
      cases os hf
      exact r_vret X I dX4_becomes_151
    · have hf := im c_116 hf
      refine lv_aload_n hx hb dX4_becomes_119 rfl (lv_at hl 0 rfl) ?_
      refine tw_get X I 1 (v := .ref (h + 1)) (by decide) q2688 rfl dX4_becomes_120 ?_
      refine lv_iload_n hx hb dX4_becomes_123 rfl (lv_at hl 1 rfl) ?_
      refine lv_aload_n hx hb dX4_becomes_124 rfl (lv_at hl 0 rfl) ?_
      refine tw_get X I 2 (v := .ref (h + 2)) (by decide) q2689 rfl dX4_becomes_125 ?_
      refine lv_iload_n hx hb dX4_becomes_128 rfl (lv_at hl 1 rfl) ?_
      obtain ⟨v_5, ev_5, hf⟩ := ob hf
      refine tw_ald X I 2 (by decide) (by decide) (by decide) ev_5 dX4_becomes_129 ?_
      obtain ⟨σ_6, eσ_6, hf⟩ := ob hf
      refine tw_ast X I 1 (by decide) (by decide) (by decide) eσ_6 dX4_becomes_130 (fun H locs I => ?_)
      obtain ⟨x1_7, ex1_7, hf⟩ := ol hf
      refine lv_iinc (v := x1_7) (lv' := [(1, .int x1_7), (0, .ref h)]) hx hb dX4_becomes_131 hl (k := 1) rfl ex1_7 (by decide) rfl (fun ls hl => ?_)
      refine lv_goto (tgt := 112) hx hb dX4_becomes_134 (by decide) ?_
      exact ih _ _ _ _ _ _ _ I (lv_sub hl [1, 0] rfl) hf
theorem wX4_becomes_75 {E : EV} {l : Launch} {p : Program} {e : Env} {s : State} {m : MethodId} {args : Array Value} {below : List Frame} {meth : Method} {c : Code} {R : Room} {h : Nat} {S : St} {res : TS} (hR : 1 ≤ R.frames ∧ 26 ≤ R.locals) (X : MX E p s m args meth c cX4_becomes 2 none RX4 "becomes") (N : Nat) : ∀ (n : Nat) (x1 : Int32) (σ : TS) (H : Heap) (locs : List Loc) (cells slots : Nat) (ls : Array Slot), WI E R s (twS h σ S) H locs cells slots → lv_has ls 2 [(0, .ref h), (1, .int x1)] → fX4_becomes_75 N n x1 σ = some res → W p l e R s m args below meth c H locs cells slots (MQ below (Qd E R.cells R.slots none (twS h res S)) args s R.cells R.slots (fr E)) (F0 m 75 ls []) := by
  intro n
  induction n with
  | zero => intro x1 σ H locs cells slots ls I hl hf; exact nomatch (show none = some res from hf)
  | succ n ih =>
    intro x1 σ H locs cells slots ls I hl hf
    obtain ⟨⟨hx, hb, hml, hown, hts⟩, -⟩ := id X
    rw [fX4_becomes_75.eq_2] at hf
    refine lv_iload_n hx hb dX4_becomes_75 rfl (lv_at hl 1 rfl) ?_
    refine lv_iconst (v := 4) hx hb dX4_becomes_76 (by decide) ?_
    refine lv_icmp_ge (tgt := 110) hx hb dX4_becomes_77 (by decide) (fun c_77 => ?_) (fun c_77 => ?_)
    · have hf := ip c_77 hf
      refine lv_iconst (v := 0) hx hb dX4_becomes_110 (by decide) ?_
      refine lv_istore_n (lv' := [(1, .int (0 : Int32)), (0, .ref h)]) hx hb dX4_becomes_111 rfl hl (by decide) rfl (fun ls hl => ?_)
      exact wX4_becomes_112 hR X N N _ _ _ _ _ _ _ I (lv_sub hl [1, 0] rfl) hf
    · have hf := im c_77 hf
      refine lv_aload_n hx hb dX4_becomes_80 rfl (lv_at hl 0 rfl) ?_
      refine tw_get X I 20 (v := .ref (h + 10)) (by decide) q2707 rfl dX4_becomes_81 ?_
      refine lv_iload_n hx hb dX4_becomes_84 rfl (lv_at hl 1 rfl) ?_
      refine lv_aload_n hx hb dX4_becomes_85 rfl (lv_at hl 0 rfl) ?_
      refine tw_get X I 12 (v := .ref (h + 6)) (by decide) q2699 rfl dX4_becomes_86 ?_
      refine lv_iload_n hx hb dX4_becomes_89 rfl (lv_at hl 1 rfl) ?_
      obtain ⟨v_8, ev_8, hf⟩ := ob hf
      refine tw_ald X I 6 (by decide) (by decide) (by decide) ev_8 dX4_becomes_90 ?_
      obtain ⟨σ_9, eσ_9, hf⟩ := ob hf
      refine tw_ast X I 10 (by decide) (by decide) (by decide) eσ_9 dX4_becomes_91 (fun H locs I => ?_)
      refine lv_aload_n hx hb dX4_becomes_92 rfl (lv_at hl 0 rfl) ?_
      refine tw_get X I 21 (v := .ref (h + 11)) (by decide) q2708 rfl dX4_becomes_93 ?_
      refine lv_iload_n hx hb dX4_becomes_96 rfl (lv_at hl 1 rfl) ?_
      refine lv_aload_n hx hb dX4_becomes_97 rfl (lv_at hl 0 rfl) ?_
      refine tw_get X I 13 (v := .ref (h + 7)) (by decide) q2700 rfl dX4_becomes_98 ?_
      refine lv_iload_n hx hb dX4_becomes_101 rfl (lv_at hl 1 rfl) ?_
      obtain ⟨v_10, ev_10, hf⟩ := ob hf
      refine tw_ald X I 7 (by decide) (by decide) (by decide) ev_10 dX4_becomes_102 ?_
      obtain ⟨σ_11, eσ_11, hf⟩ := ob hf
      refine tw_ast X I 11 (by decide) (by decide) (by decide) eσ_11 dX4_becomes_103 (fun H locs I => ?_)
      obtain ⟨x1_12, ex1_12, hf⟩ := ol hf
      refine lv_iinc (v := x1_12) (lv' := [(1, .int x1_12), (0, .ref h)]) hx hb dX4_becomes_104 hl (k := 1) rfl ex1_12 (by decide) rfl (fun ls hl => ?_)
      refine lv_goto (tgt := 75) hx hb dX4_becomes_107 (by decide) ?_
      exact ih _ _ _ _ _ _ _ I (lv_sub hl [1, 0] rfl) hf
theorem wX4_becomes_66 {E : EV} {l : Launch} {p : Program} {e : Env} {s : State} {m : MethodId} {args : Array Value} {below : List Frame} {meth : Method} {c : Code} {R : Room} {h : Nat} {S : St} {res : TS} (hR : 1 ≤ R.frames ∧ 26 ≤ R.locals) (X : MX E p s m args meth c cX4_becomes 2 none RX4 "becomes") (N : Nat) (r34 : Int32 → TS → Option TS) (hr34 : ∀ (x1 : Int32) (σ : TS) (H : Heap) (locs : List Loc) (cells slots : Nat) (ls : Array Slot), WI E R s (twS h σ S) H locs cells slots → lv_has ls 2 [(0, .ref h), (1, .int x1)] → r34 x1 σ = some res → W p l e R s m args below meth c H locs cells slots (MQ below (Qd E R.cells R.slots none (twS h res S)) args s R.cells R.slots (fr E)) (F0 m 34 ls [])) : ∀ (x1 : Int32) (y1 : Int32) (y2 : Int32) (σ : TS) (H : Heap) (locs : List Loc) (cells slots : Nat) (ls : Array Slot), WI E R s (twS h σ S) H locs cells slots → lv_has ls 2 [(0, .ref h), (1, .int x1)] → fX4_becomes_66 N r34 x1 y1 y2 σ = some res → W p l e R s m args below meth c H locs cells slots (MQ below (Qd E R.cells R.slots none (twS h res S)) args s R.cells R.slots (fr E)) (F0 m 66 ls [.int y2, .int y1, .ref (h + 9)]) := by
  intro x1 y1 y2 σ H locs cells slots ls I hl hf
  obtain ⟨⟨hx, hb, hml, hown, hts⟩, -⟩ := id X
  unfold fX4_becomes_66 at hf
  obtain ⟨σ_13, eσ_13, hf⟩ := ob hf
  refine tw_ast X I 9 (by decide) (by decide) (by decide) eσ_13 dX4_becomes_66 (fun H locs I => ?_)
  obtain ⟨x1_14, ex1_14, hf⟩ := ol hf
  refine lv_iinc (v := x1_14) (lv' := [(1, .int x1_14), (0, .ref h)]) hx hb dX4_becomes_67 hl (k := 1) rfl ex1_14 (by decide) rfl (fun ls hl => ?_)
  refine lv_goto (tgt := 34) hx hb dX4_becomes_70 (by decide) ?_
  exact hr34 _ _ _ _ _ _ _ I (lv_sub hl [1, 0] rfl) hf
theorem wX4_becomes_34 {E : EV} {l : Launch} {p : Program} {e : Env} {s : State} {m : MethodId} {args : Array Value} {below : List Frame} {meth : Method} {c : Code} {R : Room} {h : Nat} {S : St} {res : TS} (hR : 1 ≤ R.frames ∧ 26 ≤ R.locals) (X : MX E p s m args meth c cX4_becomes 2 none RX4 "becomes") (N : Nat) : ∀ (n : Nat) (x1 : Int32) (σ : TS) (H : Heap) (locs : List Loc) (cells slots : Nat) (ls : Array Slot), WI E R s (twS h σ S) H locs cells slots → lv_has ls 2 [(0, .ref h), (1, .int x1)] → fX4_becomes_34 N n x1 σ = some res → W p l e R s m args below meth c H locs cells slots (MQ below (Qd E R.cells R.slots none (twS h res S)) args s R.cells R.slots (fr E)) (F0 m 34 ls []) := by
  intro n
  induction n with
  | zero => intro x1 σ H locs cells slots ls I hl hf; exact nomatch (show none = some res from hf)
  | succ n ih =>
    intro x1 σ H locs cells slots ls I hl hf
    obtain ⟨⟨hx, hb, hml, hown, hts⟩, -⟩ := id X
    rw [fX4_becomes_34.eq_2] at hf
    refine lv_iload_n hx hb dX4_becomes_34 rfl (lv_at hl 1 rfl) ?_
    refine lv_bipush (v := 64) hx hb dX4_becomes_35 (by decide) ?_
    refine lv_icmp_ge (tgt := 73) hx hb dX4_becomes_37 (by decide) (fun c_37 => ?_) (fun c_37 => ?_)
    · have hf := ip c_37 hf
      refine lv_iconst (v := 0) hx hb dX4_becomes_73 (by decide) ?_
      refine lv_istore_n (lv' := [(1, .int (0 : Int32)), (0, .ref h)]) hx hb dX4_becomes_74 rfl hl (by decide) rfl (fun ls hl => ?_)
      exact wX4_becomes_75 hR X N N _ _ _ _ _ _ _ I (lv_sub hl [1, 0] rfl) hf
    · have hf := im c_37 hf
      refine lv_aload_n hx hb dX4_becomes_40 rfl (lv_at hl 0 rfl) ?_
      refine tw_get X I 19 (v := .ref (h + 9)) (by decide) q2706 rfl dX4_becomes_41 ?_
      refine lv_iload_n hx hb dX4_becomes_44 rfl (lv_at hl 1 rfl) ?_
      refine lv_iload_n hx hb dX4_becomes_45 rfl (lv_at hl 1 rfl) ?_
      refine lv_bipush (v := 8) hx hb dX4_becomes_46 (by decide) ?_
      refine lv_idiv hx hb dX4_becomes_48 (by decide) ?_
      refine lv_iload_n hx hb dX4_becomes_49 rfl (lv_at hl 1 rfl) ?_
      refine lv_bipush (v := 8) hx hb dX4_becomes_50 (by decide) ?_
      refine lv_irem hx hb dX4_becomes_52 (by decide) ?_
      refine lv_icmp_ne (tgt := 60) hx hb dX4_becomes_53 (by decide) (fun c_53 => ?_) (fun c_53 => ?_)
      · have hf := im c_53 hf
        refine lv_aload_n hx hb dX4_becomes_60 rfl (lv_at hl 0 rfl) ?_
        refine tw_get X I 11 (v := .ref (h + 5)) (by decide) q2698 rfl dX4_becomes_61 ?_
        refine lv_iload_n hx hb dX4_becomes_64 rfl (lv_at hl 1 rfl) ?_
        obtain ⟨v_15, ev_15, hf⟩ := ob hf
        refine tw_ald X I 5 (by decide) (by decide) (by decide) ev_15 dX4_becomes_65 ?_
        exact wX4_becomes_66 hR X N (fX4_becomes_34 N n) ih _ _ _ _ _ _ _ _ _ I (lv_sub hl [0, 1] rfl) hf
      · have hf := ip c_53 hf
        refine lv_iconst (v := 0) hx hb dX4_becomes_56 (by decide) ?_
        refine lv_goto (tgt := 66) hx hb dX4_becomes_57 (by decide) ?_
        exact wX4_becomes_66 hR X N (fX4_becomes_34 N n) ih _ _ _ _ _ _ _ _ _ I (lv_sub hl [0, 1] rfl) hf
theorem wX4_becomes_0 {E : EV} {l : Launch} {p : Program} {e : Env} {s : State} {m : MethodId} {args : Array Value} {below : List Frame} {meth : Method} {c : Code} {R : Room} {h : Nat} {S : St} {res : TS} (hR : 1 ≤ R.frames ∧ 26 ≤ R.locals) (X : MX E p s m args meth c cX4_becomes 2 none RX4 "becomes") (N : Nat) : ∀ (σ : TS) (H : Heap) (locs : List Loc) (cells slots : Nat) (ls : Array Slot), WI E R s (twS h σ S) H locs cells slots → lv_has ls 2 [(0, .ref h)] → fX4_becomes N σ = some res → W p l e R s m args below meth c H locs cells slots (MQ below (Qd E R.cells R.slots none (twS h res S)) args s R.cells R.slots (fr E)) (F0 m 0 ls []) := by
  intro σ H locs cells slots ls I hl hf
  obtain ⟨⟨hx, hb, hml, hown, hts⟩, -⟩ := id X
  unfold fX4_becomes at hf
  refine lv_aload_n hx hb dX4_becomes_0 rfl (lv_at hl 0 rfl) ?_
  refine lv_aload_n hx hb dX4_becomes_1 rfl (lv_at hl 0 rfl) ?_
  refine tw_get X I 7 (v := .int (σ.1 0 7)) (by decide) q2694 rfl dX4_becomes_2 ?_
  obtain ⟨σ_16, eσ_16, hf⟩ := ol hf
  refine tw_put X I 15 (ty := .int) (by decide) (by decide) rfl q2702 rfl rfl rfl rfl eσ_16 dX4_becomes_5 (fun H locs I => ?_)
  refine lv_aload_n hx hb dX4_becomes_8 rfl (lv_at hl 0 rfl) ?_
  refine lv_aload_n hx hb dX4_becomes_9 rfl (lv_at hl 0 rfl) ?_
  refine tw_get X I 8 (v := .int (σ_16.1 0 8)) (by decide) q2695 rfl dX4_becomes_10 ?_
  obtain ⟨σ_17, eσ_17, hf⟩ := ol hf
  refine tw_put X I 16 (ty := .int) (by decide) (by decide) rfl q2703 rfl rfl rfl rfl eσ_17 dX4_becomes_13 (fun H locs I => ?_)
  refine lv_aload_n hx hb dX4_becomes_16 rfl (lv_at hl 0 rfl) ?_
  refine lv_aload_n hx hb dX4_becomes_17 rfl (lv_at hl 0 rfl) ?_
  refine tw_get X I 9 (v := .int (σ_17.1 0 9)) (by decide) q2696 rfl dX4_becomes_18 ?_
  obtain ⟨σ_18, eσ_18, hf⟩ := ol hf
  refine tw_put X I 17 (ty := .int) (by decide) (by decide) rfl q2704 rfl rfl rfl rfl eσ_18 dX4_becomes_21 (fun H locs I => ?_)
  refine lv_aload_n hx hb dX4_becomes_24 rfl (lv_at hl 0 rfl) ?_
  refine lv_aload_n hx hb dX4_becomes_25 rfl (lv_at hl 0 rfl) ?_
  refine tw_get X I 10 (v := .int (σ_18.1 0 10)) (by decide) q2697 rfl dX4_becomes_26 ?_
  obtain ⟨σ_19, eσ_19, hf⟩ := ol hf
  refine tw_put X I 18 (ty := .int) (by decide) (by decide) rfl q2705 rfl rfl rfl rfl eσ_19 dX4_becomes_29 (fun H locs I => ?_)
  refine lv_iconst (v := 0) hx hb dX4_becomes_32 (by decide) ?_
  refine lv_istore_n (lv' := [(1, .int (0 : Int32)), (0, .ref h)]) hx hb dX4_becomes_33 rfl hl (by decide) rfl (fun ls hl => ?_)
  exact wX4_becomes_34 hR X N N _ _ _ _ _ _ _ I (lv_sub hl [1, 0] rfl) hf
theorem mX4_becomes {E : EV} {l : Launch} {h : Nat} {S : St} {N : Nat} {σ : TS} {res : TS} (hE : EK E) (hf : fX4_becomes N σ = some res) : CM E l yX4_becomes (ws_ yX4_becomes cX4_becomes 2 none) 1 26 [.ref h] (twS h σ S) none (twS h res S) := by
  refine CM.of hE (by decide) rfl rfl (Nat.le_of_ble_eq_true rfl) ?_
  intro p e s m below meth c X I ls hl
  exact wX4_becomes_0 ⟨Nat.le_refl _, Nat.le_refl _⟩ X N _ _ _ _ _ _ I hl hf
/-! thrown()I -/
theorem wX4_thrown_0 {E : EV} {l : Launch} {p : Program} {e : Env} {s : State} {m : MethodId} {args : Array Value} {below : List Frame} {meth : Method} {c : Code} {R : Room} {h : Nat} {S : St} {σ : TS} {res : Int32} (hR : 0 ≤ R.frames ∧ 0 ≤ R.locals) (X : MX E p s m args meth c cX4_thrown 1 (some .int) RX4 "thrown") : ∀ (H : Heap) (locs : List Loc) (cells slots : Nat) (ls : Array Slot), WI E R s (twS h σ S) H locs cells slots → lv_has ls 1 [(0, .ref h)] → fX4_thrown σ = some res → W p l e R s m args below meth c H locs cells slots (MQ below (Qd E R.cells R.slots (some (.int res)) (twS h σ S)) args s R.cells R.slots (fr E)) (F0 m 0 ls []) := by
  intro  H locs cells slots ls I hl hf
  obtain ⟨⟨hx, hb, hml, hown, hts⟩, -⟩ := id X
  unfold fX4_thrown at hf
  refine lv_aload_n hx hb dX4_thrown_0 rfl (lv_at hl 0 rfl) ?_
  refine tw_get X I 0 (v := .int (σ.1 0 0)) (by decide) q2687 rfl dX4_thrown_1 ?_
  cases os hf
  exact r_iret X I dX4_thrown_4
theorem mX4_thrown {E : EV} {l : Launch} {h : Nat} {S : St} {σ : TS} {res : Int32} (hE : EK E) (hf : fX4_thrown σ = some res) : CM E l yX4_thrown (ws_ yX4_thrown cX4_thrown 1 (some .int)) 0 0 [.ref h] (twS h σ S) (some (.int res)) (twS h σ S) := by
  refine CM.of hE (by decide) rfl rfl (Nat.le_of_ble_eq_true rfl) ?_
  intro p e s m below meth c X I ls hl
  exact wX4_thrown_0 ⟨Nat.le_refl _, Nat.le_refl _⟩ X  _ _ _ _ _ I hl hf
/-! lays(I)V -/
theorem lvX4_lays : GoodIn lw_all (wsV RX4 133 RX4 yX4_lays (ws_ yX4_lays cX4_lays 3 none)) := lw_V q2858 q2860 qs47 q120 q2861
theorem hdX4_lays : yX4_lays.cls = RX4 ∧ yX4_lays.cls ≠ "java/lang/invoke/MethodHandle" ∧ yX4_lays.cls ≠ "java/lang/invoke/VarHandle" ∧ (parseMethodDescriptor yX4_lays.desc).map (fun d => d.parameters.length) = some 1 := by decide +kernel
theorem wX4_lays_3 {E : EV} {l : Launch} {p : Program} {e : Env} {s : State} {m : MethodId} {args : Array Value} {below : List Frame} {meth : Method} {c : Code} {R : Room} {h : Nat} {S : St} {res : TS} (hR : 0 ≤ R.frames ∧ 0 ≤ R.locals) (X : MX E p s m args meth c cX4_lays 3 none RX4 "lays") (N : Nat) : ∀ (n : Nat) (x1 : Int32) (x2 : Int32) (σ : TS) (H : Heap) (locs : List Loc) (cells slots : Nat) (ls : Array Slot), WI E R s (twS h σ S) H locs cells slots → lv_has ls 3 [(0, .ref h), (1, .int x1), (2, .int x2)] → fX4_lays_3 N n x1 x2 σ = some res → W p l e R s m args below meth c H locs cells slots (MQ below (Qd E R.cells R.slots none (twS h res S)) args s R.cells R.slots (fr E)) (F0 m 3 ls []) := by
  intro n
  induction n with
  | zero => intro x1 x2 σ H locs cells slots ls I hl hf; exact nomatch (show none = some res from hf)
  | succ n ih =>
    intro x1 x2 σ H locs cells slots ls I hl hf
    obtain ⟨⟨hx, hb, hml, hown, hts⟩, -⟩ := id X
    rw [fX4_lays_3.eq_2] at hf
    refine lv_iload_n hx hb dX4_lays_3 rfl (lv_at hl 2 rfl) ?_
    refine lv_if_lt (tgt := 39) hx hb dX4_lays_4 (by decide) (fun c_4 => ?_) (fun c_4 => ?_)
    · have hf := ip c_4 hf
      cases os hf
      exact r_vret X I dX4_lays_39
    · have hf := im c_4 hf
      refine lv_aload_n hx hb dX4_lays_7 rfl (lv_at hl 0 rfl) ?_
      refine tw_get X I 22 (v := .ref (h + 12)) (by decide) q2709 rfl dX4_lays_8 ?_
      refine lv_aload_n hx hb dX4_lays_11 rfl (lv_at hl 0 rfl) ?_
      refine tw_get X I 23 (v := .int (σ.1 0 23)) (by decide) q2710 rfl dX4_lays_12 ?_
      refine lv_iload_n hx hb dX4_lays_15 rfl (lv_at hl 1 rfl) ?_
      refine lv_iload_n hx hb dX4_lays_16 rfl (lv_at hl 2 rfl) ?_
      refine lv_ishr hx hb dX4_lays_17 ?_
      refine lv_sipush (v := 255) hx hb dX4_lays_18 (by decide) ?_
      refine lv_iand hx hb dX4_lays_21 ?_
      obtain ⟨σ_1, eσ_1, hf⟩ := ob hf
      refine tw_ast X I 12 (by decide) (by decide) (by decide) eσ_1 dX4_lays_22 (fun H locs I => ?_)
      refine lv_aload_n hx hb dX4_lays_23 rfl (lv_at hl 0 rfl) ?_
      refine lv_dup hx hb dX4_lays_24 rfl ?_
      refine tw_get X I 23 (v := .int (σ_1.1 0 23)) (by decide) q2710 rfl dX4_lays_25 ?_
      refine lv_iconst (v := 1) hx hb dX4_lays_28 (by decide) ?_
      refine lv_iadd hx hb dX4_lays_29 ?_
      obtain ⟨σ_2, eσ_2, hf⟩ := ol hf
      refine tw_put X I 23 (ty := .int) (by decide) (by decide) rfl q2710 rfl rfl rfl rfl eσ_2 dX4_lays_30 (fun H locs I => ?_)
      obtain ⟨x2_3, ex2_3, hf⟩ := ol hf
      refine lv_iinc (v := x2_3) (lv' := [(2, .int x2_3), (0, .ref h), (1, .int x1)]) hx hb dX4_lays_33 hl (k := 2) rfl ex2_3 (by decide) rfl (fun ls hl => ?_)
      refine lv_goto (tgt := 3) hx hb dX4_lays_36 (by decide) ?_
      exact ih _ _ _ _ _ _ _ _ I (lv_sub hl [1, 2, 0] rfl) hf
theorem wX4_lays_0 {E : EV} {l : Launch} {p : Program} {e : Env} {s : State} {m : MethodId} {args : Array Value} {below : List Frame} {meth : Method} {c : Code} {R : Room} {h : Nat} {S : St} {res : TS} (hR : 0 ≤ R.frames ∧ 0 ≤ R.locals) (X : MX E p s m args meth c cX4_lays 3 none RX4 "lays") (N : Nat) : ∀ (x1 : Int32) (σ : TS) (H : Heap) (locs : List Loc) (cells slots : Nat) (ls : Array Slot), WI E R s (twS h σ S) H locs cells slots → lv_has ls 3 [(0, .ref h), (1, .int x1)] → fX4_lays N σ x1 = some res → W p l e R s m args below meth c H locs cells slots (MQ below (Qd E R.cells R.slots none (twS h res S)) args s R.cells R.slots (fr E)) (F0 m 0 ls []) := by
  intro x1 σ H locs cells slots ls I hl hf
  obtain ⟨⟨hx, hb, hml, hown, hts⟩, -⟩ := id X
  unfold fX4_lays at hf
  refine lv_bipush (v := 24) hx hb dX4_lays_0 (by decide) ?_
  refine lv_istore_n (lv' := [(2, .int (24 : Int32)), (0, .ref h), (1, .int x1)]) hx hb dX4_lays_2 rfl hl (by decide) rfl (fun ls hl => ?_)
  exact wX4_lays_3 hR X N N _ _ _ _ _ _ _ _ I (lv_sub hl [1, 2, 0] rfl) hf
theorem mX4_lays {E : EV} {l : Launch} {h : Nat} {S : St} {N : Nat} {σ : TS} {x1 : Int32} {res : TS} (hE : EK E) (hf : fX4_lays N σ x1 = some res) : CM E l yX4_lays (ws_ yX4_lays cX4_lays 3 none) 0 0 [.ref h, .int x1] (twS h σ S) none (twS h res S) := by
  refine CM.of hE (by decide) rfl rfl (Nat.le_of_ble_eq_true rfl) ?_
  intro p e s m below meth c X I ls hl
  exact wX4_lays_0 ⟨Nat.le_refl _, Nat.le_refl _⟩ X N _ _ _ _ _ _ _ I hl hf
/-! feed(IIIII)I -/
theorem wX4_feed_0 {E : EV} {l : Launch} {p : Program} {e : Env} {s : State} {m : MethodId} {args : Array Value} {below : List Frame} {meth : Method} {c : Code} {R : Room} {h : Nat} {S : St} {res : (Int32 × TS)} (hR : 1 ≤ R.frames ∧ 22 ≤ R.locals) (X : MX E p s m args meth c cX4_feed 6 (some .int) RX4 "feed") (N : Nat) : ∀ (x1 : Int32) (x2 : Int32) (x3 : Int32) (x4 : Int32) (x5 : Int32) (σ : TS) (H : Heap) (locs : List Loc) (cells slots : Nat) (ls : Array Slot), WI E R s (twS h σ S) H locs cells slots → lv_has ls 6 [(0, .ref h), (1, .int x1), (2, .int x2), (3, .int x3), (4, .int x4), (5, .int x5)] → fX4_feed N σ x1 x2 x3 x4 x5 = some res → W p l e R s m args below meth c H locs cells slots (MQ below (Qd E R.cells R.slots (some (.int res.1)) (twS h res.2 S)) args s R.cells R.slots (fr E)) (F0 m 0 ls []) := by
  intro x1 x2 x3 x4 x5 σ H locs cells slots ls I hl hf
  obtain ⟨⟨hx, hb, hml, hown, hts⟩, -⟩ := id X
  unfold fX4_feed at hf
  refine lv_aload_n hx hb dX4_feed_0 rfl (lv_at hl 0 rfl) ?_
  refine lv_iconst (v := 0) hx hb dX4_feed_1 (by decide) ?_
  obtain ⟨σ_1, eσ_1, hf⟩ := ol hf
  refine tw_put X I 0 (ty := .int) (by decide) (by decide) rfl q2687 rfl rfl rfl rfl eσ_1 dX4_feed_2 (fun H locs I => ?_)
  refine lv_aload_n hx hb dX4_feed_5 rfl (lv_at hl 0 rfl) ?_
  refine tw_get X I 23 (v := .int (σ_1.1 0 23)) (by decide) q2710 rfl dX4_feed_6 ?_
  refine lv_bipush (v := 20) hx hb dX4_feed_9 (by decide) ?_
  refine lv_iadd hx hb dX4_feed_11 ?_
  refine lv_sipush (v := 800) hx hb dX4_feed_12 (by decide) ?_
  refine lv_icmp_le (tgt := 20) hx hb dX4_feed_15 (by decide) (fun c_15 => ?_) (fun c_15 => ?_)
  · have hf := ip c_15 hf
    refine lv_aload_n hx hb dX4_feed_20 rfl (lv_at hl 0 rfl) ?_
    refine lv_iload_n hx hb dX4_feed_21 rfl (lv_at hl 1 rfl) ?_
    obtain ⟨σ_3, eσ_3, hf⟩ := ob hf
    refine tw_V none (rs := []) (rest := []) (As := [.int x1]) X I (mX4_lays X.2.2.2.2.1 eσ_3) lvX4_lays hdX4_lays ⟨Nat.le_trans (Nat.le_of_ble_eq_true rfl) hR.1, Nat.le_trans (Nat.le_of_ble_eq_true rfl) hR.2⟩ rfl hl.1 rfl (Nat.le_of_ble_eq_true rfl) rfl dX4_feed_22 (fun H locs cells slots I => ?_)
    refine lv_aload_n hx hb dX4_feed_25 rfl (lv_at hl 0 rfl) ?_
    refine lv_iload_n hx hb dX4_feed_26 rfl (lv_at hl 2 rfl) ?_
    obtain ⟨σ_5, eσ_5, hf⟩ := ob hf
    refine tw_V none (rs := []) (rest := []) (As := [.int x2]) X I (mX4_lays X.2.2.2.2.1 eσ_5) lvX4_lays hdX4_lays ⟨Nat.le_trans (Nat.le_of_ble_eq_true rfl) hR.1, Nat.le_trans (Nat.le_of_ble_eq_true rfl) hR.2⟩ rfl hl.1 rfl (Nat.le_of_ble_eq_true rfl) rfl dX4_feed_27 (fun H locs cells slots I => ?_)
    refine lv_aload_n hx hb dX4_feed_30 rfl (lv_at hl 0 rfl) ?_
    refine lv_iload_n hx hb dX4_feed_31 rfl (lv_at hl 3 rfl) ?_
    obtain ⟨σ_7, eσ_7, hf⟩ := ob hf
    refine tw_V none (rs := []) (rest := []) (As := [.int x3]) X I (mX4_lays X.2.2.2.2.1 eσ_7) lvX4_lays hdX4_lays ⟨Nat.le_trans (Nat.le_of_ble_eq_true rfl) hR.1, Nat.le_trans (Nat.le_of_ble_eq_true rfl) hR.2⟩ rfl hl.1 rfl (Nat.le_of_ble_eq_true rfl) rfl dX4_feed_32 (fun H locs cells slots I => ?_)
    refine lv_aload_n hx hb dX4_feed_35 rfl (lv_at hl 0 rfl) ?_
    refine lv_iload hx hb dX4_feed_36 (lv_at hl 4 rfl) ?_
    obtain ⟨σ_9, eσ_9, hf⟩ := ob hf
    refine tw_V none (rs := []) (rest := []) (As := [.int x4]) X I (mX4_lays X.2.2.2.2.1 eσ_9) lvX4_lays hdX4_lays ⟨Nat.le_trans (Nat.le_of_ble_eq_true rfl) hR.1, Nat.le_trans (Nat.le_of_ble_eq_true rfl) hR.2⟩ rfl hl.1 rfl (Nat.le_of_ble_eq_true rfl) rfl dX4_feed_38 (fun H locs cells slots I => ?_)
    refine lv_aload_n hx hb dX4_feed_41 rfl (lv_at hl 0 rfl) ?_
    refine lv_iload hx hb dX4_feed_42 (lv_at hl 5 rfl) ?_
    obtain ⟨σ_11, eσ_11, hf⟩ := ob hf
    refine tw_V none (rs := []) (rest := []) (As := [.int x5]) X I (mX4_lays X.2.2.2.2.1 eσ_11) lvX4_lays hdX4_lays ⟨Nat.le_trans (Nat.le_of_ble_eq_true rfl) hR.1, Nat.le_trans (Nat.le_of_ble_eq_true rfl) hR.2⟩ rfl hl.1 rfl (Nat.le_of_ble_eq_true rfl) rfl dX4_feed_44 (fun H locs cells slots I => ?_)
    refine lv_aload_n hx hb dX4_feed_47 rfl (lv_at hl 0 rfl) ?_
    refine tw_get X I 23 (v := .int (σ_11.1 0 23)) (by decide) q2710 rfl dX4_feed_48 ?_
    cases os hf
    exact r_iret X I dX4_feed_51
  · have hf := im c_15 hf
    refine lv_iconst (v := (-1)) hx hb dX4_feed_18 (by decide) ?_
    cases os hf
    exact r_iret X I dX4_feed_19
theorem mX4_feed {E : EV} {l : Launch} {h : Nat} {S : St} {N : Nat} {σ : TS} {x1 : Int32} {x2 : Int32} {x3 : Int32} {x4 : Int32} {x5 : Int32} {res : (Int32 × TS)} (hE : EK E) (hf : fX4_feed N σ x1 x2 x3 x4 x5 = some res) : CM E l yX4_feed (ws_ yX4_feed cX4_feed 6 (some .int)) 1 22 [.ref h, .int x1, .int x2, .int x3, .int x4, .int x5] (twS h σ S) (some (.int res.1)) (twS h res.2 S) := by
  refine CM.of hE (by decide) rfl rfl (Nat.le_of_ble_eq_true rfl) ?_
  intro p e s m below meth c X I ls hl
  exact wX4_feed_0 ⟨Nat.le_refl _, Nat.le_refl _⟩ X N _ _ _ _ _ _ _ _ _ _ _ I hl hf
/-! errorPosition()I -/
theorem wX4_errorPosition_0 {E : EV} {l : Launch} {p : Program} {e : Env} {s : State} {m : MethodId} {args : Array Value} {below : List Frame} {meth : Method} {c : Code} {R : Room} {h : Nat} {S : St} {res : (Int32 × TS)} (hR : 0 ≤ R.frames ∧ 0 ≤ R.locals) (X : MX E p s m args meth c cX4_errorPosition 1 (some .int) RX4 "errorPosition") : ∀ (σ : TS) (H : Heap) (locs : List Loc) (cells slots : Nat) (ls : Array Slot), WI E R s (twS h σ S) H locs cells slots → lv_has ls 1 [(0, .ref h)] → fX4_errorPosition σ = some res → W p l e R s m args below meth c H locs cells slots (MQ below (Qd E R.cells R.slots (some (.int res.1)) (twS h res.2 S)) args s R.cells R.slots (fr E)) (F0 m 0 ls []) := by
  intro σ H locs cells slots ls I hl hf
  obtain ⟨⟨hx, hb, hml, hown, hts⟩, -⟩ := id X
  unfold fX4_errorPosition at hf
  refine lv_aload_n hx hb dX4_errorPosition_0 rfl (lv_at hl 0 rfl) ?_
  refine lv_iconst (v := 0) hx hb dX4_errorPosition_1 (by decide) ?_
  obtain ⟨σ_1, eσ_1, hf⟩ := ol hf
  refine tw_put X I 0 (ty := .int) (by decide) (by decide) rfl q2687 rfl rfl rfl rfl eσ_1 dX4_errorPosition_2 (fun H locs I => ?_)
  refine lv_aload_n hx hb dX4_errorPosition_5 rfl (lv_at hl 0 rfl) ?_
  refine tw_get X I 31 (v := .int (σ_1.1 0 31)) (by decide) q2718 rfl dX4_errorPosition_6 ?_
  cases os hf
  exact r_iret X I dX4_errorPosition_9
theorem mX4_errorPosition {E : EV} {l : Launch} {h : Nat} {S : St} {σ : TS} {res : (Int32 × TS)} (hE : EK E) (hf : fX4_errorPosition σ = some res) : CM E l yX4_errorPosition (ws_ yX4_errorPosition cX4_errorPosition 1 (some .int)) 0 0 [.ref h] (twS h σ S) (some (.int res.1)) (twS h res.2 S) := by
  refine CM.of hE (by decide) rfl rfl (Nat.le_of_ble_eq_true rfl) ?_
  intro p e s m below meth c X I ls hl
  exact wX4_errorPosition_0 ⟨Nat.le_refl _, Nat.le_refl _⟩ X _ _ _ _ _ _ I hl hf
/-! in(JJJ)Z -/
theorem lvX4_in : GoodIn lw_all (va_wsS RX4 197 yX4_in (ws_ yX4_in cX4_in 6 (some .boolean))) := lw_S q2870 q2871 q120 q2872
theorem hdX4_in : yX4_in.cls ≠ "java/lang/invoke/MethodHandle" ∧ yX4_in.cls ≠ "java/lang/invoke/VarHandle" ∧ (parseMethodDescriptor yX4_in.desc).map (fun d => d.parameters.length) = some 3 := by decide +kernel
theorem wX4_in_0 {E : EV} {l : Launch} {p : Program} {e : Env} {s : State} {m : MethodId} {args : Array Value} {below : List Frame} {meth : Method} {c : Code} {R : Room} {σ : St} {res : Int32} (hR : 0 ≤ R.frames ∧ 0 ≤ R.locals) (X : MX E p s m args meth c cX4_in 6 (some .boolean) RX4 "in") : ∀ (x0 : Int64) (x2 : Int64) (x4 : Int64) (H : Heap) (locs : List Loc) (cells slots : Nat) (ls : Array Slot), WI E R s σ H locs cells slots → lv_has ls 6 [(0, .long x0), (2, .long x2), (4, .long x4)] → fX4_in x0 x2 x4 = some res → W p l e R s m args below meth c H locs cells slots (MQ below (Qd E R.cells R.slots (some (.int res)) σ) args s R.cells R.slots (fr E)) (F0 m 0 ls []) := by
  intro x0 x2 x4 H locs cells slots ls I hl hf
  obtain ⟨⟨hx, hb, hml, hown, hts⟩, -⟩ := id X
  unfold fX4_in at hf
  refine lv_lload_n hx hb dX4_in_0 rfl (lv_at hl 0 rfl) ?_
  refine lv_lload_n hx hb dX4_in_1 rfl (lv_at hl 1 rfl) ?_
  refine W.lcmp hx hb dX4_in_2 ?_
  refine lv_if_lt (tgt := 17) hx hb dX4_in_3 (by decide) (fun c_3 => ?_) (fun c_3 => ?_)
  · have hf := ip c_3 hf
    refine lv_iconst (v := 0) hx hb dX4_in_17 (by decide) ?_
    cases os hf
    exact r_zret X I (Or.inl rfl) dX4_in_18
  · have hf := im c_3 hf
    refine lv_lload_n hx hb dX4_in_6 rfl (lv_at hl 0 rfl) ?_
    refine lv_lload hx hb dX4_in_7 (lv_at hl 2 rfl) ?_
    refine W.lcmp hx hb dX4_in_9 ?_
    refine lv_if_gt (tgt := 17) hx hb dX4_in_10 (by decide) (fun c_10 => ?_) (fun c_10 => ?_)
    · have hf := ip c_10 hf
      refine lv_iconst (v := 0) hx hb dX4_in_17 (by decide) ?_
      cases os hf
      exact r_zret X I (Or.inl rfl) dX4_in_18
    · have hf := im c_10 hf
      refine lv_iconst (v := 1) hx hb dX4_in_13 (by decide) ?_
      refine lv_goto (tgt := 18) hx hb dX4_in_14 (by decide) ?_
      cases os hf
      exact r_zret X I (Or.inr rfl) dX4_in_18
theorem mX4_in {E : EV} {l : Launch} {σ : St} {x0 : Int64} {x2 : Int64} {x4 : Int64} {res : Int32} (hE : EK E) (hf : fX4_in x0 x2 x4 = some res) : CM E l yX4_in (ws_ yX4_in cX4_in 6 (some .boolean)) 0 0 [.long x0, .long x2, .long x4] σ (some (.int res)) σ := by
  refine CM.of hE (by decide) rfl rfl (Nat.le_of_ble_eq_true rfl) ?_
  intro p e s m below meth c X I ls hl
  exact wX4_in_0 ⟨Nat.le_refl _, Nat.le_refl _⟩ X _ _ _ _ _ _ _ _ I hl hf
/-! fails(ZI)Z -/
theorem lvX4_fails : GoodIn lw_all (wsV RX4 256 RX4 yX4_fails (ws_ yX4_fails cX4_fails 3 (some .boolean))) := lw_V q2873 q2875 qs48 q120 q2876
theorem hdX4_fails : yX4_fails.cls = RX4 ∧ yX4_fails.cls ≠ "java/lang/invoke/MethodHandle" ∧ yX4_fails.cls ≠ "java/lang/invoke/VarHandle" ∧ (parseMethodDescriptor yX4_fails.desc).map (fun d => d.parameters.length) = some 2 := by decide +kernel
theorem wX4_fails_0 {E : EV} {l : Launch} {p : Program} {e : Env} {s : State} {m : MethodId} {args : Array Value} {below : List Frame} {meth : Method} {c : Code} {R : Room} {h : Nat} {S : St} {res : (Int32 × TS)} (hR : 0 ≤ R.frames ∧ 0 ≤ R.locals) (X : MX E p s m args meth c cX4_fails 3 (some .boolean) RX4 "fails") : ∀ (x1 : Int32) (x2 : Int32) (σ : TS) (H : Heap) (locs : List Loc) (cells slots : Nat) (ls : Array Slot), WI E R s (twS h σ S) H locs cells slots → lv_has ls 3 [(0, .ref h), (1, .int x1), (2, .int x2)] → fX4_fails σ x1 x2 = some res → W p l e R s m args below meth c H locs cells slots (MQ below (Qd E R.cells R.slots (some (.int res.1)) (twS h res.2 S)) args s R.cells R.slots (fr E)) (F0 m 0 ls []) := by
  intro x1 x2 σ H locs cells slots ls I hl hf
  obtain ⟨⟨hx, hb, hml, hown, hts⟩, -⟩ := id X
  unfold fX4_fails at hf
  refine lv_iload_n hx hb dX4_fails_0 rfl (lv_at hl 1 rfl) ?_
  refine lv_if_eq (tgt := 6) hx hb dX4_fails_1 (by decide) (fun c_1 => ?_) (fun c_1 => ?_)
  · have hf := ip c_1 hf
    refine lv_aload_n hx hb dX4_fails_6 rfl (lv_at hl 0 rfl) ?_
    refine lv_iload_n hx hb dX4_fails_7 rfl (lv_at hl 2 rfl) ?_
    obtain ⟨σ_1, eσ_1, hf⟩ := ol hf
    refine tw_put X I 0 (ty := .int) (by decide) (by decide) rfl q2687 rfl rfl rfl rfl eσ_1 dX4_fails_8 (fun H locs I => ?_)
    refine lv_iconst (v := 1) hx hb dX4_fails_11 (by decide) ?_
    cases os hf
    exact r_zret X I (Or.inr rfl) dX4_fails_12
  · have hf := im c_1 hf
    refine lv_iconst (v := 0) hx hb dX4_fails_4 (by decide) ?_
    cases os hf
    exact r_zret X I (Or.inl rfl) dX4_fails_5
theorem mX4_fails {E : EV} {l : Launch} {h : Nat} {S : St} {σ : TS} {x1 : Int32} {x2 : Int32} {res : (Int32 × TS)} (hE : EK E) (hf : fX4_fails σ x1 x2 = some res) : CM E l yX4_fails (ws_ yX4_fails cX4_fails 3 (some .boolean)) 0 0 [.ref h, .int x1, .int x2] (twS h σ S) (some (.int res.1)) (twS h res.2 S) := by
  refine CM.of hE (by decide) rfl rfl (Nat.le_of_ble_eq_true rfl) ?_
  intro p e s m below meth c X I ls hl
  exact wX4_fails_0 ⟨Nat.le_refl _, Nat.le_refl _⟩ X _ _ _ _ _ _ _ _ I hl hf
/-! byteAt(I)I -/
theorem lvX4_byteAt : GoodIn lw_all (wsV RX4 146 RX4 yX4_byteAt (ws_ yX4_byteAt cX4_byteAt 2 (some .int))) := lw_V q2885 q2887 qs51 q120 q2888
theorem hdX4_byteAt : yX4_byteAt.cls = RX4 ∧ yX4_byteAt.cls ≠ "java/lang/invoke/MethodHandle" ∧ yX4_byteAt.cls ≠ "java/lang/invoke/VarHandle" ∧ (parseMethodDescriptor yX4_byteAt.desc).map (fun d => d.parameters.length) = some 1 := by decide +kernel
theorem wX4_byteAt_0 {E : EV} {l : Launch} {p : Program} {e : Env} {s : State} {m : MethodId} {args : Array Value} {below : List Frame} {meth : Method} {c : Code} {R : Room} {h : Nat} {S : St} {σ : TS} {res : Int32} (hR : 0 ≤ R.frames ∧ 0 ≤ R.locals) (X : MX E p s m args meth c cX4_byteAt 2 (some .int) RX4 "byteAt") : ∀ (x1 : Int32) (H : Heap) (locs : List Loc) (cells slots : Nat) (ls : Array Slot), WI E R s (twS h σ S) H locs cells slots → lv_has ls 2 [(0, .ref h), (1, .int x1)] → fX4_byteAt σ x1 = some res → W p l e R s m args below meth c H locs cells slots (MQ below (Qd E R.cells R.slots (some (.int res)) (twS h σ S)) args s R.cells R.slots (fr E)) (F0 m 0 ls []) := by
  intro x1 H locs cells slots ls I hl hf
  obtain ⟨⟨hx, hb, hml, hown, hts⟩, -⟩ := id X
  unfold fX4_byteAt at hf
  refine lv_iload_n hx hb dX4_byteAt_0 rfl (lv_at hl 1 rfl) ?_
  refine lv_aload_n hx hb dX4_byteAt_1 rfl (lv_at hl 0 rfl) ?_
  refine tw_get X I 24 (v := .int (σ.1 0 24)) (by decide) q2711 rfl dX4_byteAt_2 ?_
  refine lv_icmp_ge (tgt := 17) hx hb dX4_byteAt_5 (by decide) (fun c_5 => ?_) (fun c_5 => ?_)
  · have hf := ip c_5 hf
    refine lv_iconst (v := (-1)) hx hb dX4_byteAt_17 (by decide) ?_
    cases os hf
    exact r_iret X I dX4_byteAt_18
  · have hf := im c_5 hf
    refine lv_aload_n hx hb dX4_byteAt_8 rfl (lv_at hl 0 rfl) ?_
    refine tw_get X I 22 (v := .ref (h + 12)) (by decide) q2709 rfl dX4_byteAt_9 ?_
    refine lv_iload_n hx hb dX4_byteAt_12 rfl (lv_at hl 1 rfl) ?_
    obtain ⟨v_1, ev_1, hf⟩ := ob hf
    refine tw_ald X I 12 (by decide) (by decide) (by decide) ev_1 dX4_byteAt_13 ?_
    refine lv_goto (tgt := 18) hx hb dX4_byteAt_14 (by decide) ?_
    cases os hf
    exact r_iret X I dX4_byteAt_18
theorem mX4_byteAt {E : EV} {l : Launch} {h : Nat} {S : St} {σ : TS} {x1 : Int32} {res : Int32} (hE : EK E) (hf : fX4_byteAt σ x1 = some res) : CM E l yX4_byteAt (ws_ yX4_byteAt cX4_byteAt 2 (some .int)) 0 0 [.ref h, .int x1] (twS h σ S) (some (.int res)) (twS h σ S) := by
  refine CM.of hE (by decide) rfl rfl (Nat.le_of_ble_eq_true rfl) ?_
  intro p e s m below meth c X I ls hl
  exact wX4_byteAt_0 ⟨Nat.le_refl _, Nat.le_refl _⟩ X _ _ _ _ _ _ I hl hf
/-! isLetter(I)Z -/
theorem lvX4_isLetter : GoodIn lw_all (va_wsS RX4 150 yX4_isLetter (ws_ yX4_isLetter cX4_isLetter 1 (some .boolean))) := lw_S q2889 q2890 q120 q2891
theorem hdX4_isLetter : yX4_isLetter.cls ≠ "java/lang/invoke/MethodHandle" ∧ yX4_isLetter.cls ≠ "java/lang/invoke/VarHandle" ∧ (parseMethodDescriptor yX4_isLetter.desc).map (fun d => d.parameters.length) = some 1 := by decide +kernel
theorem wX4_isLetter_0 {E : EV} {l : Launch} {p : Program} {e : Env} {s : State} {m : MethodId} {args : Array Value} {below : List Frame} {meth : Method} {c : Code} {R : Room} {σ : St} {res : Int32} (hR : 0 ≤ R.frames ∧ 0 ≤ R.locals) (X : MX E p s m args meth c cX4_isLetter 1 (some .boolean) RX4 "isLetter") : ∀ (x0 : Int32) (H : Heap) (locs : List Loc) (cells slots : Nat) (ls : Array Slot), WI E R s σ H locs cells slots → lv_has ls 1 [(0, .int x0)] → fX4_isLetter x0 = some res → W p l e R s m args below meth c H locs cells slots (MQ below (Qd E R.cells R.slots (some (.int res)) σ) args s R.cells R.slots (fr E)) (F0 m 0 ls []) := by
  intro x0 H locs cells slots ls I hl hf
  obtain ⟨⟨hx, hb, hml, hown, hts⟩, -⟩ := id X
  unfold fX4_isLetter at hf
  refine lv_iload_n hx hb dX4_isLetter_0 rfl (lv_at hl 0 rfl) ?_
  refine lv_bipush (v := 97) hx hb dX4_isLetter_1 (by decide) ?_
  refine lv_icmp_lt (tgt := 16) hx hb dX4_isLetter_3 (by decide) (fun c_3 => ?_) (fun c_3 => ?_)
  · have hf := ip c_3 hf
    refine lv_iconst (v := 0) hx hb dX4_isLetter_16 (by decide) ?_
    cases os hf
    exact r_zret X I (Or.inl rfl) dX4_isLetter_17
  · have hf := im c_3 hf
    refine lv_iload_n hx hb dX4_isLetter_6 rfl (lv_at hl 0 rfl) ?_
    refine lv_bipush (v := 122) hx hb dX4_isLetter_7 (by decide) ?_
    refine lv_icmp_gt (tgt := 16) hx hb dX4_isLetter_9 (by decide) (fun c_9 => ?_) (fun c_9 => ?_)
    · have hf := ip c_9 hf
      refine lv_iconst (v := 0) hx hb dX4_isLetter_16 (by decide) ?_
      cases os hf
      exact r_zret X I (Or.inl rfl) dX4_isLetter_17
    · have hf := im c_9 hf
      refine lv_iconst (v := 1) hx hb dX4_isLetter_12 (by decide) ?_
      refine lv_goto (tgt := 17) hx hb dX4_isLetter_13 (by decide) ?_
      cases os hf
      exact r_zret X I (Or.inr rfl) dX4_isLetter_17
theorem mX4_isLetter {E : EV} {l : Launch} {σ : St} {x0 : Int32} {res : Int32} (hE : EK E) (hf : fX4_isLetter x0 = some res) : CM E l yX4_isLetter (ws_ yX4_isLetter cX4_isLetter 1 (some .boolean)) 0 0 [.int x0] σ (some (.int res)) σ := by
  refine CM.of hE (by decide) rfl rfl (Nat.le_of_ble_eq_true rfl) ?_
  intro p e s m below meth c X I ls hl
  exact wX4_isLetter_0 ⟨Nat.le_refl _, Nat.le_refl _⟩ X _ _ _ _ _ _ I hl hf
/-! readsWord()V -/
theorem lvX4_readsWord : GoodIn lw_all (wsV RX4 171 RX4 yX4_readsWord (ws_ yX4_readsWord cX4_readsWord 1 none)) := lw_V q2892 q2894 qs52 q120 q2895
theorem hdX4_readsWord : yX4_readsWord.cls = RX4 ∧ yX4_readsWord.cls ≠ "java/lang/invoke/MethodHandle" ∧ yX4_readsWord.cls ≠ "java/lang/invoke/VarHandle" ∧ (parseMethodDescriptor yX4_readsWord.desc).map (fun d => d.parameters.length) = some 0 := by decide +kernel
theorem wX4_readsWord_60 {E : EV} {l : Launch} {p : Program} {e : Env} {s : State} {m : MethodId} {args : Array Value} {below : List Frame} {meth : Method} {c : Code} {R : Room} {h : Nat} {S : St} {res : TS} (hR : 1 ≤ R.frames ∧ 21 ≤ R.locals) (X : MX E p s m args meth c cX4_readsWord 1 none RX4 "readsWord") (N : Nat) (r5 : TS → Option TS) (hr5 : ∀ (σ : TS) (H : Heap) (locs : List Loc) (cells slots : Nat) (ls : Array Slot), WI E R s (twS h σ S) H locs cells slots → lv_has ls 1 [(0, .ref h)] → r5 σ = some res → W p l e R s m args below meth c H locs cells slots (MQ below (Qd E R.cells R.slots none (twS h res S)) args s R.cells R.slots (fr E)) (F0 m 5 ls [])) : ∀ (σ : TS) (H : Heap) (locs : List Loc) (cells slots : Nat) (ls : Array Slot), WI E R s (twS h σ S) H locs cells slots → lv_has ls 1 [(0, .ref h)] → fX4_readsWord_60 N r5 σ = some res → W p l e R s m args below meth c H locs cells slots (MQ below (Qd E R.cells R.slots none (twS h res S)) args s R.cells R.slots (fr E)) (F0 m 60 ls []) := by
  intro σ H locs cells slots ls I hl hf
  obtain ⟨⟨hx, hb, hml, hown, hts⟩, -⟩ := id X
  unfold fX4_readsWord_60 at hf
  refine lv_aload_n hx hb dX4_readsWord_60 rfl (lv_at hl 0 rfl) ?_
  refine lv_dup hx hb dX4_readsWord_61 rfl ?_
  refine tw_get X I 25 (v := .int (σ.1 0 25)) (by decide) q2712 rfl dX4_readsWord_62 ?_
  refine lv_iconst (v := 1) hx hb dX4_readsWord_65 (by decide) ?_
  refine lv_iadd hx hb dX4_readsWord_66 ?_
  obtain ⟨σ_1, eσ_1, hf⟩ := ol hf
  refine tw_put X I 25 (ty := .int) (by decide) (by decide) rfl q2712 rfl rfl rfl rfl eσ_1 dX4_readsWord_67 (fun H locs I => ?_)
  refine lv_goto (tgt := 5) hx hb dX4_readsWord_70 (by decide) ?_
  exact hr5 _ _ _ _ _ _ I (lv_sub hl [0] rfl) hf
theorem wX4_readsWord_5 {E : EV} {l : Launch} {p : Program} {e : Env} {s : State} {m : MethodId} {args : Array Value} {below : List Frame} {meth : Method} {c : Code} {R : Room} {h : Nat} {S : St} {res : TS} (hR : 1 ≤ R.frames ∧ 21 ≤ R.locals) (X : MX E p s m args meth c cX4_readsWord 1 none RX4 "readsWord") (N : Nat) : ∀ (n : Nat) (σ : TS) (H : Heap) (locs : List Loc) (cells slots : Nat) (ls : Array Slot), WI E R s (twS h σ S) H locs cells slots → lv_has ls 1 [(0, .ref h)] → fX4_readsWord_5 N n σ = some res → W p l e R s m args below meth c H locs cells slots (MQ below (Qd E R.cells R.slots none (twS h res S)) args s R.cells R.slots (fr E)) (F0 m 5 ls []) := by
  intro n
  induction n with
  | zero => intro σ H locs cells slots ls I hl hf; exact nomatch (show none = some res from hf)
  | succ n ih =>
    intro σ H locs cells slots ls I hl hf
    obtain ⟨⟨hx, hb, hml, hown, hts⟩, -⟩ := id X
    rw [fX4_readsWord_5.eq_2] at hf
    refine lv_aload_n hx hb dX4_readsWord_5 rfl (lv_at hl 0 rfl) ?_
    refine lv_aload_n hx hb dX4_readsWord_6 rfl (lv_at hl 0 rfl) ?_
    refine tw_get X I 25 (v := .int (σ.1 0 25)) (by decide) q2712 rfl dX4_readsWord_7 ?_
    obtain ⟨v_2, ev_2, hf⟩ := ob hf
    refine tw_V (some (.int v_2)) (rs := [.int v_2]) (rest := []) (As := [.int (σ.1 0 25)]) X I (mX4_byteAt X.2.2.2.2.1 ev_2) lvX4_byteAt hdX4_byteAt ⟨Nat.le_trans (Nat.le_of_ble_eq_true rfl) hR.1, Nat.le_trans (Nat.le_of_ble_eq_true rfl) hR.2⟩ rfl hl.1 rfl (Nat.le_of_ble_eq_true rfl) rfl dX4_readsWord_10 (fun H locs cells slots I => ?_)
    obtain ⟨v_4, ev_4, hf⟩ := ob hf
    refine tw_S (some (.int v_4)) (rs := [.int v_4]) (rest := []) (As := [.int v_2]) X I (mX4_isLetter X.2.2.2.2.1 ev_4) lvX4_isLetter hdX4_isLetter ⟨Nat.le_trans (Nat.le_of_ble_eq_true rfl) hR.1, Nat.le_trans (Nat.le_of_ble_eq_true rfl) hR.2⟩ rfl hl.1 rfl (Nat.le_of_ble_eq_true rfl) rfl dX4_readsWord_13 (fun H locs cells slots I => ?_)
    refine lv_if_eq (tgt := 73) hx hb dX4_readsWord_16 (by decide) (fun c_16 => ?_) (fun c_16 => ?_)
    · have hf := ip c_16 hf
      refine lv_aload_n hx hb dX4_readsWord_73 rfl (lv_at hl 0 rfl) ?_
      refine lv_iconst (v := 1) hx hb dX4_readsWord_74 (by decide) ?_
      obtain ⟨σ_6, eσ_6, hf⟩ := ol hf
      refine tw_put X I 27 (ty := .int) (by decide) (by decide) rfl q2714 rfl rfl rfl rfl eσ_6 dX4_readsWord_75 (fun H locs I => ?_)
      cases os hf
      exact r_vret X I dX4_readsWord_78
    · have hf := im c_16 hf
      refine lv_aload_n hx hb dX4_readsWord_19 rfl (lv_at hl 0 rfl) ?_
      refine tw_get X I 25 (v := .int (σ.1 0 25)) (by decide) q2712 rfl dX4_readsWord_20 ?_
      refine lv_aload_n hx hb dX4_readsWord_23 rfl (lv_at hl 0 rfl) ?_
      refine tw_get X I 26 (v := .int (σ.1 0 26)) (by decide) q2713 rfl dX4_readsWord_24 ?_
      refine lv_isub hx hb dX4_readsWord_27 ?_
      refine lv_bipush (v := 10) hx hb dX4_readsWord_28 (by decide) ?_
      refine lv_icmp_ge (tgt := 60) hx hb dX4_readsWord_30 (by decide) (fun c_30 => ?_) (fun c_30 => ?_)
      · have hf := ip c_30 hf
        exact wX4_readsWord_60 hR X N (fX4_readsWord_5 N n) ih _ _ _ _ _ _ I (lv_sub hl [0] rfl) hf
      · have hf := im c_30 hf
        refine lv_aload_n hx hb dX4_readsWord_33 rfl (lv_at hl 0 rfl) ?_
        refine lv_ldc2 (v := 27) hx hb hown (hts _ q2896) dX4_readsWord_34 ?_
        refine lv_aload_n hx hb dX4_readsWord_37 rfl (lv_at hl 0 rfl) ?_
        refine tw_get X I 29 (v := .long σ.2) (by decide) q2716 rfl dX4_readsWord_38 ?_
        refine lv_lmul hx hb dX4_readsWord_41 ?_
        refine lv_aload_n hx hb dX4_readsWord_42 rfl (lv_at hl 0 rfl) ?_
        refine tw_get X I 22 (v := .ref (h + 12)) (by decide) q2709 rfl dX4_readsWord_43 ?_
        refine lv_aload_n hx hb dX4_readsWord_46 rfl (lv_at hl 0 rfl) ?_
        refine tw_get X I 25 (v := .int (σ.1 0 25)) (by decide) q2712 rfl dX4_readsWord_47 ?_
        obtain ⟨v_7, ev_7, hf⟩ := ob hf
        refine tw_ald X I 12 (by decide) (by decide) (by decide) ev_7 dX4_readsWord_50 ?_
        refine lv_i2l hx hb dX4_readsWord_51 rfl ?_
        refine lv_ladd hx hb dX4_readsWord_52 ?_
        refine lv_ldc2 (v := 96) hx hb hown (hts _ q2897) dX4_readsWord_53 ?_
        refine lv_lsub hx hb dX4_readsWord_56 ?_
        obtain ⟨σ_8, eσ_8, hf⟩ := ol hf
        refine tw_putL X I q2716 eσ_8 dX4_readsWord_57 (fun H locs I => ?_)
        exact wX4_readsWord_60 hR X N (fX4_readsWord_5 N n) ih _ _ _ _ _ _ I (lv_sub hl [0] rfl) hf
theorem wX4_readsWord_0 {E : EV} {l : Launch} {p : Program} {e : Env} {s : State} {m : MethodId} {args : Array Value} {below : List Frame} {meth : Method} {c : Code} {R : Room} {h : Nat} {S : St} {res : TS} (hR : 1 ≤ R.frames ∧ 21 ≤ R.locals) (X : MX E p s m args meth c cX4_readsWord 1 none RX4 "readsWord") (N : Nat) : ∀ (σ : TS) (H : Heap) (locs : List Loc) (cells slots : Nat) (ls : Array Slot), WI E R s (twS h σ S) H locs cells slots → lv_has ls 1 [(0, .ref h)] → fX4_readsWord N σ = some res → W p l e R s m args below meth c H locs cells slots (MQ below (Qd E R.cells R.slots none (twS h res S)) args s R.cells R.slots (fr E)) (F0 m 0 ls []) := by
  intro σ H locs cells slots ls I hl hf
  obtain ⟨⟨hx, hb, hml, hown, hts⟩, -⟩ := id X
  unfold fX4_readsWord at hf
  refine lv_aload_n hx hb dX4_readsWord_0 rfl (lv_at hl 0 rfl) ?_
  refine lv_lconst (v := 0) hx hb dX4_readsWord_1 (by decide) ?_
  obtain ⟨σ_9, eσ_9, hf⟩ := ol hf
  refine tw_putL X I q2716 eσ_9 dX4_readsWord_2 (fun H locs I => ?_)
  exact wX4_readsWord_5 hR X N N _ _ _ _ _ _ I (lv_sub hl [0] rfl) hf
theorem mX4_readsWord {E : EV} {l : Launch} {h : Nat} {S : St} {N : Nat} {σ : TS} {res : TS} (hE : EK E) (hf : fX4_readsWord N σ = some res) : CM E l yX4_readsWord (ws_ yX4_readsWord cX4_readsWord 1 none) 1 21 [.ref h] (twS h σ S) none (twS h res S) := by
  refine CM.of hE (by decide) rfl rfl (Nat.le_of_ble_eq_true rfl) ?_
  intro p e s m below meth c X I ls hl
  exact wX4_readsWord_0 ⟨Nat.le_refl _, Nat.le_refl _⟩ X N _ _ _ _ _ _ I hl hf
/-! isFigure(I)Z -/
theorem lvX4_isFigure : GoodIn lw_all (va_wsS RX4 167 yX4_isFigure (ws_ yX4_isFigure cX4_isFigure 1 (some .boolean))) := lw_S q2898 q2899 q120 q2900
theorem hdX4_isFigure : yX4_isFigure.cls ≠ "java/lang/invoke/MethodHandle" ∧ yX4_isFigure.cls ≠ "java/lang/invoke/VarHandle" ∧ (parseMethodDescriptor yX4_isFigure.desc).map (fun d => d.parameters.length) = some 1 := by decide +kernel
theorem wX4_isFigure_0 {E : EV} {l : Launch} {p : Program} {e : Env} {s : State} {m : MethodId} {args : Array Value} {below : List Frame} {meth : Method} {c : Code} {R : Room} {σ : St} {res : Int32} (hR : 0 ≤ R.frames ∧ 0 ≤ R.locals) (X : MX E p s m args meth c cX4_isFigure 1 (some .boolean) RX4 "isFigure") : ∀ (x0 : Int32) (H : Heap) (locs : List Loc) (cells slots : Nat) (ls : Array Slot), WI E R s σ H locs cells slots → lv_has ls 1 [(0, .int x0)] → fX4_isFigure x0 = some res → W p l e R s m args below meth c H locs cells slots (MQ below (Qd E R.cells R.slots (some (.int res)) σ) args s R.cells R.slots (fr E)) (F0 m 0 ls []) := by
  intro x0 H locs cells slots ls I hl hf
  obtain ⟨⟨hx, hb, hml, hown, hts⟩, -⟩ := id X
  unfold fX4_isFigure at hf
  refine lv_iload_n hx hb dX4_isFigure_0 rfl (lv_at hl 0 rfl) ?_
  refine lv_bipush (v := 48) hx hb dX4_isFigure_1 (by decide) ?_
  refine lv_icmp_lt (tgt := 16) hx hb dX4_isFigure_3 (by decide) (fun c_3 => ?_) (fun c_3 => ?_)
  · have hf := ip c_3 hf
    refine lv_iconst (v := 0) hx hb dX4_isFigure_16 (by decide) ?_
    cases os hf
    exact r_zret X I (Or.inl rfl) dX4_isFigure_17
  · have hf := im c_3 hf
    refine lv_iload_n hx hb dX4_isFigure_6 rfl (lv_at hl 0 rfl) ?_
    refine lv_bipush (v := 57) hx hb dX4_isFigure_7 (by decide) ?_
    refine lv_icmp_gt (tgt := 16) hx hb dX4_isFigure_9 (by decide) (fun c_9 => ?_) (fun c_9 => ?_)
    · have hf := ip c_9 hf
      refine lv_iconst (v := 0) hx hb dX4_isFigure_16 (by decide) ?_
      cases os hf
      exact r_zret X I (Or.inl rfl) dX4_isFigure_17
    · have hf := im c_9 hf
      refine lv_iconst (v := 1) hx hb dX4_isFigure_12 (by decide) ?_
      refine lv_goto (tgt := 17) hx hb dX4_isFigure_13 (by decide) ?_
      cases os hf
      exact r_zret X I (Or.inr rfl) dX4_isFigure_17
theorem mX4_isFigure {E : EV} {l : Launch} {σ : St} {x0 : Int32} {res : Int32} (hE : EK E) (hf : fX4_isFigure x0 = some res) : CM E l yX4_isFigure (ws_ yX4_isFigure cX4_isFigure 1 (some .boolean)) 0 0 [.int x0] σ (some (.int res)) σ := by
  refine CM.of hE (by decide) rfl rfl (Nat.le_of_ble_eq_true rfl) ?_
  intro p e s m below meth c X I ls hl
  exact wX4_isFigure_0 ⟨Nat.le_refl _, Nat.le_refl _⟩ X _ _ _ _ _ _ I hl hf
/-! readsNumber()V -/
theorem lvX4_readsNumber : GoodIn lw_all (wsV RX4 174 RX4 yX4_readsNumber (ws_ yX4_readsNumber cX4_readsNumber 1 none)) := lw_V q2901 q2903 qs53 q120 q2904
theorem hdX4_readsNumber : yX4_readsNumber.cls = RX4 ∧ yX4_readsNumber.cls ≠ "java/lang/invoke/MethodHandle" ∧ yX4_readsNumber.cls ≠ "java/lang/invoke/VarHandle" ∧ (parseMethodDescriptor yX4_readsNumber.desc).map (fun d => d.parameters.length) = some 0 := by decide +kernel
theorem wX4_readsNumber_56 {E : EV} {l : Launch} {p : Program} {e : Env} {s : State} {m : MethodId} {args : Array Value} {below : List Frame} {meth : Method} {c : Code} {R : Room} {h : Nat} {S : St} {res : TS} (hR : 1 ≤ R.frames ∧ 21 ≤ R.locals) (X : MX E p s m args meth c cX4_readsNumber 1 none RX4 "readsNumber") (N : Nat) (r5 : TS → Option TS) (hr5 : ∀ (σ : TS) (H : Heap) (locs : List Loc) (cells slots : Nat) (ls : Array Slot), WI E R s (twS h σ S) H locs cells slots → lv_has ls 1 [(0, .ref h)] → r5 σ = some res → W p l e R s m args below meth c H locs cells slots (MQ below (Qd E R.cells R.slots none (twS h res S)) args s R.cells R.slots (fr E)) (F0 m 5 ls [])) : ∀ (y1 : Int32) (σ : TS) (H : Heap) (locs : List Loc) (cells slots : Nat) (ls : Array Slot), WI E R s (twS h σ S) H locs cells slots → lv_has ls 1 [(0, .ref h)] → fX4_readsNumber_56 N r5 y1 σ = some res → W p l e R s m args below meth c H locs cells slots (MQ below (Qd E R.cells R.slots none (twS h res S)) args s R.cells R.slots (fr E)) (F0 m 56 ls [.int y1, .ref h]) := by
  intro y1 σ H locs cells slots ls I hl hf
  obtain ⟨⟨hx, hb, hml, hown, hts⟩, -⟩ := id X
  unfold fX4_readsNumber_56 at hf
  obtain ⟨σ_1, eσ_1, hf⟩ := ol hf
  refine tw_put X I 28 (ty := .int) (by decide) (by decide) rfl q2715 rfl rfl rfl rfl eσ_1 dX4_readsNumber_56 (fun H locs I => ?_)
  refine lv_aload_n hx hb dX4_readsNumber_59 rfl (lv_at hl 0 rfl) ?_
  refine lv_dup hx hb dX4_readsNumber_60 rfl ?_
  refine tw_get X I 25 (v := .int (σ_1.1 0 25)) (by decide) q2712 rfl dX4_readsNumber_61 ?_
  refine lv_iconst (v := 1) hx hb dX4_readsNumber_64 (by decide) ?_
  refine lv_iadd hx hb dX4_readsNumber_65 ?_
  obtain ⟨σ_2, eσ_2, hf⟩ := ol hf
  refine tw_put X I 25 (ty := .int) (by decide) (by decide) rfl q2712 rfl rfl rfl rfl eσ_2 dX4_readsNumber_66 (fun H locs I => ?_)
  refine lv_goto (tgt := 5) hx hb dX4_readsNumber_69 (by decide) ?_
  exact hr5 _ _ _ _ _ _ I (lv_sub hl [0] rfl) hf
theorem wX4_readsNumber_5 {E : EV} {l : Launch} {p : Program} {e : Env} {s : State} {m : MethodId} {args : Array Value} {below : List Frame} {meth : Method} {c : Code} {R : Room} {h : Nat} {S : St} {res : TS} (hR : 1 ≤ R.frames ∧ 21 ≤ R.locals) (X : MX E p s m args meth c cX4_readsNumber 1 none RX4 "readsNumber") (N : Nat) : ∀ (n : Nat) (σ : TS) (H : Heap) (locs : List Loc) (cells slots : Nat) (ls : Array Slot), WI E R s (twS h σ S) H locs cells slots → lv_has ls 1 [(0, .ref h)] → fX4_readsNumber_5 N n σ = some res → W p l e R s m args below meth c H locs cells slots (MQ below (Qd E R.cells R.slots none (twS h res S)) args s R.cells R.slots (fr E)) (F0 m 5 ls []) := by
  intro n
  induction n with
  | zero => intro σ H locs cells slots ls I hl hf; exact nomatch (show none = some res from hf)
  | succ n ih =>
    intro σ H locs cells slots ls I hl hf
    obtain ⟨⟨hx, hb, hml, hown, hts⟩, -⟩ := id X
    rw [fX4_readsNumber_5.eq_2] at hf
    refine lv_aload_n hx hb dX4_readsNumber_5 rfl (lv_at hl 0 rfl) ?_
    refine lv_aload_n hx hb dX4_readsNumber_6 rfl (lv_at hl 0 rfl) ?_
    refine tw_get X I 25 (v := .int (σ.1 0 25)) (by decide) q2712 rfl dX4_readsNumber_7 ?_
    obtain ⟨v_3, ev_3, hf⟩ := ob hf
    refine tw_V (some (.int v_3)) (rs := [.int v_3]) (rest := []) (As := [.int (σ.1 0 25)]) X I (mX4_byteAt X.2.2.2.2.1 ev_3) lvX4_byteAt hdX4_byteAt ⟨Nat.le_trans (Nat.le_of_ble_eq_true rfl) hR.1, Nat.le_trans (Nat.le_of_ble_eq_true rfl) hR.2⟩ rfl hl.1 rfl (Nat.le_of_ble_eq_true rfl) rfl dX4_readsNumber_10 (fun H locs cells slots I => ?_)
    obtain ⟨v_5, ev_5, hf⟩ := ob hf
    refine tw_S (some (.int v_5)) (rs := [.int v_5]) (rest := []) (As := [.int v_3]) X I (mX4_isFigure X.2.2.2.2.1 ev_5) lvX4_isFigure hdX4_isFigure ⟨Nat.le_trans (Nat.le_of_ble_eq_true rfl) hR.1, Nat.le_trans (Nat.le_of_ble_eq_true rfl) hR.2⟩ rfl hl.1 rfl (Nat.le_of_ble_eq_true rfl) rfl dX4_readsNumber_13 (fun H locs cells slots I => ?_)
    refine lv_if_eq (tgt := 72) hx hb dX4_readsNumber_16 (by decide) (fun c_16 => ?_) (fun c_16 => ?_)
    · have hf := ip c_16 hf
      refine lv_aload_n hx hb dX4_readsNumber_72 rfl (lv_at hl 0 rfl) ?_
      refine lv_iconst (v := 2) hx hb dX4_readsNumber_73 (by decide) ?_
      obtain ⟨σ_7, eσ_7, hf⟩ := ol hf
      refine tw_put X I 27 (ty := .int) (by decide) (by decide) rfl q2714 rfl rfl rfl rfl eσ_7 dX4_readsNumber_74 (fun H locs I => ?_)
      cases os hf
      exact r_vret X I dX4_readsNumber_77
    · have hf := im c_16 hf
      refine lv_aload_n hx hb dX4_readsNumber_19 rfl (lv_at hl 0 rfl) ?_
      refine lv_aload_n hx hb dX4_readsNumber_20 rfl (lv_at hl 0 rfl) ?_
      refine tw_get X I 28 (v := .int (σ.1 0 28)) (by decide) q2715 rfl dX4_readsNumber_21 ?_
      refine lv_ldc (v := 9999999) hx hb hown (hts _ q2905) dX4_readsNumber_24 ?_
      refine lv_icmp_le (tgt := 36) hx hb dX4_readsNumber_26 (by decide) (fun c_26 => ?_) (fun c_26 => ?_)
      · have hf := ip c_26 hf
        refine lv_bipush (v := 10) hx hb dX4_readsNumber_36 (by decide) ?_
        refine lv_aload_n hx hb dX4_readsNumber_38 rfl (lv_at hl 0 rfl) ?_
        refine tw_get X I 28 (v := .int (σ.1 0 28)) (by decide) q2715 rfl dX4_readsNumber_39 ?_
        refine lv_imul hx hb dX4_readsNumber_42 ?_
        refine lv_aload_n hx hb dX4_readsNumber_43 rfl (lv_at hl 0 rfl) ?_
        refine tw_get X I 22 (v := .ref (h + 12)) (by decide) q2709 rfl dX4_readsNumber_44 ?_
        refine lv_aload_n hx hb dX4_readsNumber_47 rfl (lv_at hl 0 rfl) ?_
        refine tw_get X I 25 (v := .int (σ.1 0 25)) (by decide) q2712 rfl dX4_readsNumber_48 ?_
        obtain ⟨v_8, ev_8, hf⟩ := ob hf
        refine tw_ald X I 12 (by decide) (by decide) (by decide) ev_8 dX4_readsNumber_51 ?_
        refine lv_iadd hx hb dX4_readsNumber_52 ?_
        refine lv_bipush (v := 48) hx hb dX4_readsNumber_53 (by decide) ?_
        refine lv_isub hx hb dX4_readsNumber_55 ?_
        exact wX4_readsNumber_56 hR X N (fX4_readsNumber_5 N n) ih _ _ _ _ _ _ _ I (lv_sub hl [0] rfl) hf
      · have hf := im c_26 hf
        refine lv_aload_n hx hb dX4_readsNumber_29 rfl (lv_at hl 0 rfl) ?_
        refine tw_get X I 28 (v := .int (σ.1 0 28)) (by decide) q2715 rfl dX4_readsNumber_30 ?_
        refine lv_goto (tgt := 56) hx hb dX4_readsNumber_33 (by decide) ?_
        exact wX4_readsNumber_56 hR X N (fX4_readsNumber_5 N n) ih _ _ _ _ _ _ _ I (lv_sub hl [0] rfl) hf
theorem wX4_readsNumber_0 {E : EV} {l : Launch} {p : Program} {e : Env} {s : State} {m : MethodId} {args : Array Value} {below : List Frame} {meth : Method} {c : Code} {R : Room} {h : Nat} {S : St} {res : TS} (hR : 1 ≤ R.frames ∧ 21 ≤ R.locals) (X : MX E p s m args meth c cX4_readsNumber 1 none RX4 "readsNumber") (N : Nat) : ∀ (σ : TS) (H : Heap) (locs : List Loc) (cells slots : Nat) (ls : Array Slot), WI E R s (twS h σ S) H locs cells slots → lv_has ls 1 [(0, .ref h)] → fX4_readsNumber N σ = some res → W p l e R s m args below meth c H locs cells slots (MQ below (Qd E R.cells R.slots none (twS h res S)) args s R.cells R.slots (fr E)) (F0 m 0 ls []) := by
  intro σ H locs cells slots ls I hl hf
  obtain ⟨⟨hx, hb, hml, hown, hts⟩, -⟩ := id X
  unfold fX4_readsNumber at hf
  refine lv_aload_n hx hb dX4_readsNumber_0 rfl (lv_at hl 0 rfl) ?_
  refine lv_iconst (v := 0) hx hb dX4_readsNumber_1 (by decide) ?_
  obtain ⟨σ_9, eσ_9, hf⟩ := ol hf
  refine tw_put X I 28 (ty := .int) (by decide) (by decide) rfl q2715 rfl rfl rfl rfl eσ_9 dX4_readsNumber_2 (fun H locs I => ?_)
  exact wX4_readsNumber_5 hR X N N _ _ _ _ _ _ I (lv_sub hl [0] rfl) hf
theorem mX4_readsNumber {E : EV} {l : Launch} {h : Nat} {S : St} {N : Nat} {σ : TS} {res : TS} (hE : EK E) (hf : fX4_readsNumber N σ = some res) : CM E l yX4_readsNumber (ws_ yX4_readsNumber cX4_readsNumber 1 none) 1 21 [.ref h] (twS h σ S) none (twS h res S) := by
  refine CM.of hE (by decide) rfl rfl (Nat.le_of_ble_eq_true rfl) ?_
  intro p e s m below meth c X I ls hl
  exact wX4_readsNumber_0 ⟨Nat.le_refl _, Nat.le_refl _⟩ X N _ _ _ _ _ _ I hl hf
/-! next()V -/
theorem lvX4_next : GoodIn lw_all (wsV RX4 180 RX4 yX4_next (ws_ yX4_next cX4_next 1 none)) := lw_V q2881 q2883 qs50 q120 q2884
theorem hdX4_next : yX4_next.cls = RX4 ∧ yX4_next.cls ≠ "java/lang/invoke/MethodHandle" ∧ yX4_next.cls ≠ "java/lang/invoke/VarHandle" ∧ (parseMethodDescriptor yX4_next.desc).map (fun d => d.parameters.length) = some 0 := by decide +kernel
theorem wX4_next_26 {E : EV} {l : Launch} {p : Program} {e : Env} {s : State} {m : MethodId} {args : Array Value} {below : List Frame} {meth : Method} {c : Code} {R : Room} {h : Nat} {S : St} {res : TS} (hR : 2 ≤ R.frames ∧ 41 ≤ R.locals) (X : MX E p s m args meth c cX4_next 1 none RX4 "next") (N : Nat) (r0 : TS → Option TS) (hr0 : ∀ (σ : TS) (H : Heap) (locs : List Loc) (cells slots : Nat) (ls : Array Slot), WI E R s (twS h σ S) H locs cells slots → lv_has ls 1 [(0, .ref h)] → r0 σ = some res → W p l e R s m args below meth c H locs cells slots (MQ below (Qd E R.cells R.slots none (twS h res S)) args s R.cells R.slots (fr E)) (F0 m 0 ls [])) : ∀ (σ : TS) (H : Heap) (locs : List Loc) (cells slots : Nat) (ls : Array Slot), WI E R s (twS h σ S) H locs cells slots → lv_has ls 1 [(0, .ref h)] → fX4_next_26 N r0 σ = some res → W p l e R s m args below meth c H locs cells slots (MQ below (Qd E R.cells R.slots none (twS h res S)) args s R.cells R.slots (fr E)) (F0 m 26 ls []) := by
  intro σ H locs cells slots ls I hl hf
  obtain ⟨⟨hx, hb, hml, hown, hts⟩, -⟩ := id X
  unfold fX4_next_26 at hf
  refine lv_aload_n hx hb dX4_next_26 rfl (lv_at hl 0 rfl) ?_
  refine lv_dup hx hb dX4_next_27 rfl ?_
  refine tw_get X I 25 (v := .int (σ.1 0 25)) (by decide) q2712 rfl dX4_next_28 ?_
  refine lv_iconst (v := 1) hx hb dX4_next_31 (by decide) ?_
  refine lv_iadd hx hb dX4_next_32 ?_
  obtain ⟨σ_1, eσ_1, hf⟩ := ol hf
  refine tw_put X I 25 (ty := .int) (by decide) (by decide) rfl q2712 rfl rfl rfl rfl eσ_1 dX4_next_33 (fun H locs I => ?_)
  refine lv_goto (tgt := 0) hx hb dX4_next_36 (by decide) ?_
  exact hr0 _ _ _ _ _ _ I (lv_sub hl [0] rfl) hf
theorem wX4_next_0 {E : EV} {l : Launch} {p : Program} {e : Env} {s : State} {m : MethodId} {args : Array Value} {below : List Frame} {meth : Method} {c : Code} {R : Room} {h : Nat} {S : St} {res : TS} (hR : 2 ≤ R.frames ∧ 41 ≤ R.locals) (X : MX E p s m args meth c cX4_next 1 none RX4 "next") (N : Nat) : ∀ (n : Nat) (σ : TS) (H : Heap) (locs : List Loc) (cells slots : Nat) (ls : Array Slot), WI E R s (twS h σ S) H locs cells slots → lv_has ls 1 [(0, .ref h)] → fX4_next_0 N n σ = some res → W p l e R s m args below meth c H locs cells slots (MQ below (Qd E R.cells R.slots none (twS h res S)) args s R.cells R.slots (fr E)) (F0 m 0 ls []) := by
  intro n
  induction n with
  | zero => intro σ H locs cells slots ls I hl hf; exact nomatch (show none = some res from hf)
  | succ n ih =>
    intro σ H locs cells slots ls I hl hf
    obtain ⟨⟨hx, hb, hml, hown, hts⟩, -⟩ := id X
    rw [fX4_next_0.eq_2] at hf
    refine lv_aload_n hx hb dX4_next_0 rfl (lv_at hl 0 rfl) ?_
    refine lv_aload_n hx hb dX4_next_1 rfl (lv_at hl 0 rfl) ?_
    refine tw_get X I 25 (v := .int (σ.1 0 25)) (by decide) q2712 rfl dX4_next_2 ?_
    obtain ⟨v_2, ev_2, hf⟩ := ob hf
    refine tw_V (some (.int v_2)) (rs := [.int v_2]) (rest := []) (As := [.int (σ.1 0 25)]) X I (mX4_byteAt X.2.2.2.2.1 ev_2) lvX4_byteAt hdX4_byteAt ⟨Nat.le_trans (Nat.le_of_ble_eq_true rfl) hR.1, Nat.le_trans (Nat.le_of_ble_eq_true rfl) hR.2⟩ rfl hl.1 rfl (Nat.le_of_ble_eq_true rfl) rfl dX4_next_5 (fun H locs cells slots I => ?_)
    refine lv_bipush (v := 32) hx hb dX4_next_8 (by decide) ?_
    refine lv_icmp_eq (tgt := 26) hx hb dX4_next_10 (by decide) (fun c_10 => ?_) (fun c_10 => ?_)
    · have hf := ip c_10 hf
      exact wX4_next_26 hR X N (fX4_next_0 N n) ih _ _ _ _ _ _ I (lv_sub hl [0] rfl) hf
    · have hf := im c_10 hf
      refine lv_aload_n hx hb dX4_next_13 rfl (lv_at hl 0 rfl) ?_
      refine lv_aload_n hx hb dX4_next_14 rfl (lv_at hl 0 rfl) ?_
      refine tw_get X I 25 (v := .int (σ.1 0 25)) (by decide) q2712 rfl dX4_next_15 ?_
      obtain ⟨v_4, ev_4, hf⟩ := ob hf
      refine tw_V (some (.int v_4)) (rs := [.int v_4]) (rest := []) (As := [.int (σ.1 0 25)]) X I (mX4_byteAt X.2.2.2.2.1 ev_4) lvX4_byteAt hdX4_byteAt ⟨Nat.le_trans (Nat.le_of_ble_eq_true rfl) hR.1, Nat.le_trans (Nat.le_of_ble_eq_true rfl) hR.2⟩ rfl hl.1 rfl (Nat.le_of_ble_eq_true rfl) rfl dX4_next_18 (fun H locs cells slots I => ?_)
      refine lv_bipush (v := 10) hx hb dX4_next_21 (by decide) ?_
      refine lv_icmp_ne (tgt := 39) hx hb dX4_next_23 (by decide) (fun c_23 => ?_) (fun c_23 => ?_)
      · have hf := im c_23 hf
        refine lv_aload_n hx hb dX4_next_39 rfl (lv_at hl 0 rfl) ?_
        refine lv_aload_n hx hb dX4_next_40 rfl (lv_at hl 0 rfl) ?_
        refine tw_get X I 25 (v := .int (σ.1 0 25)) (by decide) q2712 rfl dX4_next_41 ?_
        obtain ⟨σ_6, eσ_6, hf⟩ := ol hf
        refine tw_put X I 26 (ty := .int) (by decide) (by decide) rfl q2713 rfl rfl rfl rfl eσ_6 dX4_next_44 (fun H locs I => ?_)
        refine lv_aload_n hx hb dX4_next_47 rfl (lv_at hl 0 rfl) ?_
        refine tw_get X I 25 (v := .int (σ_6.1 0 25)) (by decide) q2712 rfl dX4_next_48 ?_
        refine lv_aload_n hx hb dX4_next_51 rfl (lv_at hl 0 rfl) ?_
        refine tw_get X I 24 (v := .int (σ_6.1 0 24)) (by decide) q2711 rfl dX4_next_52 ?_
        refine lv_icmp_lt (tgt := 66) hx hb dX4_next_55 (by decide) (fun c_55 => ?_) (fun c_55 => ?_)
        · have hf := ip c_55 hf
          refine lv_aload_n hx hb dX4_next_66 rfl (lv_at hl 0 rfl) ?_
          refine tw_get X I 22 (v := .ref (h + 12)) (by decide) q2709 rfl dX4_next_67 ?_
          refine lv_aload_n hx hb dX4_next_70 rfl (lv_at hl 0 rfl) ?_
          refine tw_get X I 25 (v := .int (σ_6.1 0 25)) (by decide) q2712 rfl dX4_next_71 ?_
          obtain ⟨v_7, ev_7, hf⟩ := ob hf
          refine tw_ald X I 12 (by decide) (by decide) (by decide) ev_7 dX4_next_74 ?_
          obtain ⟨v_8, ev_8, hf⟩ := ob hf
          refine tw_S (some (.int v_8)) (rs := [.int v_8]) (rest := []) (As := [.int v_7]) X I (mX4_isLetter X.2.2.2.2.1 ev_8) lvX4_isLetter hdX4_isLetter ⟨Nat.le_trans (Nat.le_of_ble_eq_true rfl) hR.1, Nat.le_trans (Nat.le_of_ble_eq_true rfl) hR.2⟩ rfl hl.1 rfl (Nat.le_of_ble_eq_true rfl) rfl dX4_next_75 (fun H locs cells slots I => ?_)
          refine lv_if_eq (tgt := 88) hx hb dX4_next_78 (by decide) (fun c_78 => ?_) (fun c_78 => ?_)
          · have hf := ip c_78 hf
            refine lv_aload_n hx hb dX4_next_88 rfl (lv_at hl 0 rfl) ?_
            refine tw_get X I 22 (v := .ref (h + 12)) (by decide) q2709 rfl dX4_next_89 ?_
            refine lv_aload_n hx hb dX4_next_92 rfl (lv_at hl 0 rfl) ?_
            refine tw_get X I 25 (v := .int (σ_6.1 0 25)) (by decide) q2712 rfl dX4_next_93 ?_
            obtain ⟨v_10, ev_10, hf⟩ := ob hf
            refine tw_ald X I 12 (by decide) (by decide) (by decide) ev_10 dX4_next_96 ?_
            obtain ⟨v_11, ev_11, hf⟩ := ob hf
            refine tw_S (some (.int v_11)) (rs := [.int v_11]) (rest := []) (As := [.int v_10]) X I (mX4_isFigure X.2.2.2.2.1 ev_11) lvX4_isFigure hdX4_isFigure ⟨Nat.le_trans (Nat.le_of_ble_eq_true rfl) hR.1, Nat.le_trans (Nat.le_of_ble_eq_true rfl) hR.2⟩ rfl hl.1 rfl (Nat.le_of_ble_eq_true rfl) rfl dX4_next_97 (fun H locs cells slots I => ?_)
            refine lv_if_eq (tgt := 110) hx hb dX4_next_100 (by decide) (fun c_100 => ?_) (fun c_100 => ?_)
            · have hf := ip c_100 hf
              refine lv_aload_n hx hb dX4_next_110 rfl (lv_at hl 0 rfl) ?_
              refine lv_iconst (v := 3) hx hb dX4_next_111 (by decide) ?_
              obtain ⟨σ_13, eσ_13, hf⟩ := ol hf
              refine tw_put X I 27 (ty := .int) (by decide) (by decide) rfl q2714 rfl rfl rfl rfl eσ_13 dX4_next_112 (fun H locs I => ?_)
              refine lv_aload_n hx hb dX4_next_115 rfl (lv_at hl 0 rfl) ?_
              refine lv_dup hx hb dX4_next_116 rfl ?_
              refine tw_get X I 25 (v := .int (σ_13.1 0 25)) (by decide) q2712 rfl dX4_next_117 ?_
              refine lv_iconst (v := 1) hx hb dX4_next_120 (by decide) ?_
              refine lv_iadd hx hb dX4_next_121 ?_
              obtain ⟨σ_14, eσ_14, hf⟩ := ol hf
              refine tw_put X I 25 (ty := .int) (by decide) (by decide) rfl q2712 rfl rfl rfl rfl eσ_14 dX4_next_122 (fun H locs I => ?_)
              cases os hf
              exact r_vret X I dX4_next_125
            · have hf := im c_100 hf
              refine lv_aload_n hx hb dX4_next_103 rfl (lv_at hl 0 rfl) ?_
              obtain ⟨σ_16, eσ_16, hf⟩ := ob hf
              refine tw_V none (rs := []) (rest := []) (As := []) X I (mX4_readsNumber X.2.2.2.2.1 eσ_16) lvX4_readsNumber hdX4_readsNumber ⟨Nat.le_trans (Nat.le_of_ble_eq_true rfl) hR.1, Nat.le_trans (Nat.le_of_ble_eq_true rfl) hR.2⟩ rfl hl.1 rfl (Nat.le_of_ble_eq_true rfl) rfl dX4_next_104 (fun H locs cells slots I => ?_)
              refine lv_goto (tgt := 125) hx hb dX4_next_107 (by decide) ?_
              cases os hf
              exact r_vret X I dX4_next_125
          · have hf := im c_78 hf
            refine lv_aload_n hx hb dX4_next_81 rfl (lv_at hl 0 rfl) ?_
            obtain ⟨σ_18, eσ_18, hf⟩ := ob hf
            refine tw_V none (rs := []) (rest := []) (As := []) X I (mX4_readsWord X.2.2.2.2.1 eσ_18) lvX4_readsWord hdX4_readsWord ⟨Nat.le_trans (Nat.le_of_ble_eq_true rfl) hR.1, Nat.le_trans (Nat.le_of_ble_eq_true rfl) hR.2⟩ rfl hl.1 rfl (Nat.le_of_ble_eq_true rfl) rfl dX4_next_82 (fun H locs cells slots I => ?_)
            refine lv_goto (tgt := 125) hx hb dX4_next_85 (by decide) ?_
            cases os hf
            exact r_vret X I dX4_next_125
        · have hf := im c_55 hf
          refine lv_aload_n hx hb dX4_next_58 rfl (lv_at hl 0 rfl) ?_
          refine lv_iconst (v := 0) hx hb dX4_next_59 (by decide) ?_
          obtain ⟨σ_19, eσ_19, hf⟩ := ol hf
          refine tw_put X I 27 (ty := .int) (by decide) (by decide) rfl q2714 rfl rfl rfl rfl eσ_19 dX4_next_60 (fun H locs I => ?_)
          refine lv_goto (tgt := 125) hx hb dX4_next_63 (by decide) ?_
          cases os hf
          exact r_vret X I dX4_next_125
      · have hf := ip c_23 hf
        exact wX4_next_26 hR X N (fX4_next_0 N n) ih _ _ _ _ _ _ I (lv_sub hl [0] rfl) hf
theorem mX4_next {E : EV} {l : Launch} {h : Nat} {S : St} {N : Nat} {σ : TS} {res : TS} (hE : EK E) (hf : fX4_next N σ = some res) : CM E l yX4_next (ws_ yX4_next cX4_next 1 none) 2 41 [.ref h] (twS h σ S) none (twS h res S) := by
  refine CM.of hE (by decide) rfl rfl (Nat.le_of_ble_eq_true rfl) ?_
  intro p e s m below meth c X I ls hl
  exact wX4_next_0 ⟨Nat.le_refl _, Nat.le_refl _⟩ X N N _ _ _ _ _ _ I hl hf
/-! starts(I)V -/
theorem lvX4_starts : GoodIn lw_all (wsV RX4 260 RX4 yX4_starts (ws_ yX4_starts cX4_starts 2 none)) := lw_V q2877 q2879 qs49 q120 q2880
theorem hdX4_starts : yX4_starts.cls = RX4 ∧ yX4_starts.cls ≠ "java/lang/invoke/MethodHandle" ∧ yX4_starts.cls ≠ "java/lang/invoke/VarHandle" ∧ (parseMethodDescriptor yX4_starts.desc).map (fun d => d.parameters.length) = some 1 := by decide +kernel
theorem wX4_starts_0 {E : EV} {l : Launch} {p : Program} {e : Env} {s : State} {m : MethodId} {args : Array Value} {below : List Frame} {meth : Method} {c : Code} {R : Room} {h : Nat} {S : St} {res : TS} (hR : 3 ≤ R.frames ∧ 61 ≤ R.locals) (X : MX E p s m args meth c cX4_starts 2 none RX4 "starts") (N : Nat) : ∀ (x1 : Int32) (σ : TS) (H : Heap) (locs : List Loc) (cells slots : Nat) (ls : Array Slot), WI E R s (twS h σ S) H locs cells slots → lv_has ls 2 [(0, .ref h), (1, .int x1)] → fX4_starts N σ x1 = some res → W p l e R s m args below meth c H locs cells slots (MQ below (Qd E R.cells R.slots none (twS h res S)) args s R.cells R.slots (fr E)) (F0 m 0 ls []) := by
  intro x1 σ H locs cells slots ls I hl hf
  obtain ⟨⟨hx, hb, hml, hown, hts⟩, -⟩ := id X
  unfold fX4_starts at hf
  refine lv_aload_n hx hb dX4_starts_0 rfl (lv_at hl 0 rfl) ?_
  refine lv_iload_n hx hb dX4_starts_1 rfl (lv_at hl 1 rfl) ?_
  obtain ⟨σ_1, eσ_1, hf⟩ := ol hf
  refine tw_put X I 24 (ty := .int) (by decide) (by decide) rfl q2711 rfl rfl rfl rfl eσ_1 dX4_starts_2 (fun H locs I => ?_)
  refine lv_aload_n hx hb dX4_starts_5 rfl (lv_at hl 0 rfl) ?_
  refine lv_iconst (v := 0) hx hb dX4_starts_6 (by decide) ?_
  obtain ⟨σ_2, eσ_2, hf⟩ := ol hf
  refine tw_put X I 23 (ty := .int) (by decide) (by decide) rfl q2710 rfl rfl rfl rfl eσ_2 dX4_starts_7 (fun H locs I => ?_)
  refine lv_aload_n hx hb dX4_starts_10 rfl (lv_at hl 0 rfl) ?_
  refine lv_iconst (v := 0) hx hb dX4_starts_11 (by decide) ?_
  obtain ⟨σ_3, eσ_3, hf⟩ := ol hf
  refine tw_put X I 25 (ty := .int) (by decide) (by decide) rfl q2712 rfl rfl rfl rfl eσ_3 dX4_starts_12 (fun H locs I => ?_)
  refine lv_aload_n hx hb dX4_starts_15 rfl (lv_at hl 0 rfl) ?_
  refine lv_iconst (v := 0) hx hb dX4_starts_16 (by decide) ?_
  obtain ⟨σ_4, eσ_4, hf⟩ := ol hf
  refine tw_put X I 30 (ty := .int) (by decide) (by decide) rfl q2717 rfl rfl rfl rfl eσ_4 dX4_starts_17 (fun H locs I => ?_)
  refine lv_aload_n hx hb dX4_starts_20 rfl (lv_at hl 0 rfl) ?_
  refine lv_iconst (v := (-1)) hx hb dX4_starts_21 (by decide) ?_
  obtain ⟨σ_5, eσ_5, hf⟩ := ol hf
  refine tw_put X I 31 (ty := .int) (by decide) (by decide) rfl q2718 rfl rfl rfl rfl eσ_5 dX4_starts_22 (fun H locs I => ?_)
  refine lv_aload_n hx hb dX4_starts_25 rfl (lv_at hl 0 rfl) ?_
  obtain ⟨σ_7, eσ_7, hf⟩ := ob hf
  refine tw_V none (rs := []) (rest := []) (As := []) X I (mX4_next X.2.2.2.2.1 eσ_7) lvX4_next hdX4_next ⟨Nat.le_trans (Nat.le_of_ble_eq_true rfl) hR.1, Nat.le_trans (Nat.le_of_ble_eq_true rfl) hR.2⟩ rfl hl.1 rfl (Nat.le_of_ble_eq_true rfl) rfl dX4_starts_26 (fun H locs cells slots I => ?_)
  cases os hf
  exact r_vret X I dX4_starts_29
theorem mX4_starts {E : EV} {l : Launch} {h : Nat} {S : St} {N : Nat} {σ : TS} {x1 : Int32} {res : TS} (hE : EK E) (hf : fX4_starts N σ x1 = some res) : CM E l yX4_starts (ws_ yX4_starts cX4_starts 2 none) 3 61 [.ref h, .int x1] (twS h σ S) none (twS h res S) := by
  refine CM.of hE (by decide) rfl rfl (Nat.le_of_ble_eq_true rfl) ?_
  intro p e s m below meth c X I ls hl
  exact wX4_starts_0 ⟨Nat.le_refl _, Nat.le_refl _⟩ X N _ _ _ _ _ _ _ I hl hf
/-! isGood()Z -/
theorem lvX4_isGood : GoodIn lw_all (wsV RX4 183 RX4 yX4_isGood (ws_ yX4_isGood cX4_isGood 1 (some .boolean))) := lw_V q2915 q2917 qs56 q120 q2918
theorem hdX4_isGood : yX4_isGood.cls = RX4 ∧ yX4_isGood.cls ≠ "java/lang/invoke/MethodHandle" ∧ yX4_isGood.cls ≠ "java/lang/invoke/VarHandle" ∧ (parseMethodDescriptor yX4_isGood.desc).map (fun d => d.parameters.length) = some 0 := by decide +kernel
theorem wX4_isGood_0 {E : EV} {l : Launch} {p : Program} {e : Env} {s : State} {m : MethodId} {args : Array Value} {below : List Frame} {meth : Method} {c : Code} {R : Room} {h : Nat} {S : St} {σ : TS} {res : Int32} (hR : 0 ≤ R.frames ∧ 0 ≤ R.locals) (X : MX E p s m args meth c cX4_isGood 1 (some .boolean) RX4 "isGood") : ∀ (H : Heap) (locs : List Loc) (cells slots : Nat) (ls : Array Slot), WI E R s (twS h σ S) H locs cells slots → lv_has ls 1 [(0, .ref h)] → fX4_isGood σ = some res → W p l e R s m args below meth c H locs cells slots (MQ below (Qd E R.cells R.slots (some (.int res)) (twS h σ S)) args s R.cells R.slots (fr E)) (F0 m 0 ls []) := by
  intro  H locs cells slots ls I hl hf
  obtain ⟨⟨hx, hb, hml, hown, hts⟩, -⟩ := id X
  unfold fX4_isGood at hf
  refine lv_aload_n hx hb dX4_isGood_0 rfl (lv_at hl 0 rfl) ?_
  refine tw_get X I 30 (v := .int (σ.1 0 30)) (by decide) q2717 rfl dX4_isGood_1 ?_
  refine lv_if_ne (tgt := 11) hx hb dX4_isGood_4 (by decide) (fun c_4 => ?_) (fun c_4 => ?_)
  · have hf := im c_4 hf
    refine lv_iconst (v := 0) hx hb dX4_isGood_11 (by decide) ?_
    cases os hf
    exact r_zret X I (Or.inl rfl) dX4_isGood_12
  · have hf := ip c_4 hf
    refine lv_iconst (v := 1) hx hb dX4_isGood_7 (by decide) ?_
    refine lv_goto (tgt := 12) hx hb dX4_isGood_8 (by decide) ?_
    cases os hf
    exact r_zret X I (Or.inr rfl) dX4_isGood_12
theorem mX4_isGood {E : EV} {l : Launch} {h : Nat} {S : St} {σ : TS} {res : Int32} (hE : EK E) (hf : fX4_isGood σ = some res) : CM E l yX4_isGood (ws_ yX4_isGood cX4_isGood 1 (some .boolean)) 0 0 [.ref h] (twS h σ S) (some (.int res)) (twS h σ S) := by
  refine CM.of hE (by decide) rfl rfl (Nat.le_of_ble_eq_true rfl) ?_
  intro p e s m below meth c X I ls hl
  exact wX4_isGood_0 ⟨Nat.le_refl _, Nat.le_refl _⟩ X  _ _ _ _ _ I hl hf
/-! isWord(J)Z -/
theorem lvX4_isWord : GoodIn lw_all (wsV RX4 187 RX4 yX4_isWord (ws_ yX4_isWord cX4_isWord 3 (some .boolean))) := lw_V q2911 q2913 qs55 q120 q2914
theorem hdX4_isWord : yX4_isWord.cls = RX4 ∧ yX4_isWord.cls ≠ "java/lang/invoke/MethodHandle" ∧ yX4_isWord.cls ≠ "java/lang/invoke/VarHandle" ∧ (parseMethodDescriptor yX4_isWord.desc).map (fun d => d.parameters.length) = some 1 := by decide +kernel
theorem wX4_isWord_0 {E : EV} {l : Launch} {p : Program} {e : Env} {s : State} {m : MethodId} {args : Array Value} {below : List Frame} {meth : Method} {c : Code} {R : Room} {h : Nat} {S : St} {σ : TS} {res : Int32} (hR : 1 ≤ R.frames ∧ 20 ≤ R.locals) (X : MX E p s m args meth c cX4_isWord 3 (some .boolean) RX4 "isWord") : ∀ (x1 : Int64) (H : Heap) (locs : List Loc) (cells slots : Nat) (ls : Array Slot), WI E R s (twS h σ S) H locs cells slots → lv_has ls 3 [(0, .ref h), (1, .long x1)] → fX4_isWord σ x1 = some res → W p l e R s m args below meth c H locs cells slots (MQ below (Qd E R.cells R.slots (some (.int res)) (twS h σ S)) args s R.cells R.slots (fr E)) (F0 m 0 ls []) := by
  intro x1 H locs cells slots ls I hl hf
  obtain ⟨⟨hx, hb, hml, hown, hts⟩, -⟩ := id X
  unfold fX4_isWord at hf
  refine lv_aload_n hx hb dX4_isWord_0 rfl (lv_at hl 0 rfl) ?_
  obtain ⟨v_1, ev_1, hf⟩ := ob hf
  refine tw_V (some (.int v_1)) (rs := [.int v_1]) (rest := []) (As := []) X I (mX4_isGood X.2.2.2.2.1 ev_1) lvX4_isGood hdX4_isGood ⟨Nat.le_trans (Nat.le_of_ble_eq_true rfl) hR.1, Nat.le_trans (Nat.le_of_ble_eq_true rfl) hR.2⟩ rfl hl.1 rfl (Nat.le_of_ble_eq_true rfl) rfl dX4_isWord_1 (fun H locs cells slots I => ?_)
  refine lv_if_eq (tgt := 42) hx hb dX4_isWord_4 (by decide) (fun c_4 => ?_) (fun c_4 => ?_)
  · have hf := ip c_4 hf
    refine lv_iconst (v := 0) hx hb dX4_isWord_42 (by decide) ?_
    cases os hf
    exact r_zret X I (Or.inl rfl) dX4_isWord_43
  · have hf := im c_4 hf
    refine lv_aload_n hx hb dX4_isWord_7 rfl (lv_at hl 0 rfl) ?_
    refine tw_get X I 27 (v := .int (σ.1 0 27)) (by decide) q2714 rfl dX4_isWord_8 ?_
    refine lv_iconst (v := 1) hx hb dX4_isWord_11 (by decide) ?_
    refine lv_icmp_ne (tgt := 42) hx hb dX4_isWord_12 (by decide) (fun c_12 => ?_) (fun c_12 => ?_)
    · have hf := im c_12 hf
      refine lv_iconst (v := 0) hx hb dX4_isWord_42 (by decide) ?_
      cases os hf
      exact r_zret X I (Or.inl rfl) dX4_isWord_43
    · have hf := ip c_12 hf
      refine lv_aload_n hx hb dX4_isWord_15 rfl (lv_at hl 0 rfl) ?_
      refine tw_get X I 25 (v := .int (σ.1 0 25)) (by decide) q2712 rfl dX4_isWord_16 ?_
      refine lv_aload_n hx hb dX4_isWord_19 rfl (lv_at hl 0 rfl) ?_
      refine tw_get X I 26 (v := .int (σ.1 0 26)) (by decide) q2713 rfl dX4_isWord_20 ?_
      refine lv_isub hx hb dX4_isWord_23 ?_
      refine lv_bipush (v := 10) hx hb dX4_isWord_24 (by decide) ?_
      refine lv_icmp_gt (tgt := 42) hx hb dX4_isWord_26 (by decide) (fun c_26 => ?_) (fun c_26 => ?_)
      · have hf := ip c_26 hf
        refine lv_iconst (v := 0) hx hb dX4_isWord_42 (by decide) ?_
        cases os hf
        exact r_zret X I (Or.inl rfl) dX4_isWord_43
      · have hf := im c_26 hf
        refine lv_aload_n hx hb dX4_isWord_29 rfl (lv_at hl 0 rfl) ?_
        refine tw_get X I 29 (v := .long σ.2) (by decide) q2716 rfl dX4_isWord_30 ?_
        refine lv_lload_n hx hb dX4_isWord_33 rfl (lv_at hl 1 rfl) ?_
        refine W.lcmp hx hb dX4_isWord_34 ?_
        refine lv_if_ne (tgt := 42) hx hb dX4_isWord_35 (by decide) (fun c_35 => ?_) (fun c_35 => ?_)
        · have hf := im c_35 hf
          refine lv_iconst (v := 0) hx hb dX4_isWord_42 (by decide) ?_
          cases os hf
          exact r_zret X I (Or.inl rfl) dX4_isWord_43
        · have hf := ip c_35 hf
          refine lv_iconst (v := 1) hx hb dX4_isWord_38 (by decide) ?_
          refine lv_goto (tgt := 43) hx hb dX4_isWord_39 (by decide) ?_
          cases os hf
          exact r_zret X I (Or.inr rfl) dX4_isWord_43
theorem mX4_isWord {E : EV} {l : Launch} {h : Nat} {S : St} {σ : TS} {x1 : Int64} {res : Int32} (hE : EK E) (hf : fX4_isWord σ x1 = some res) : CM E l yX4_isWord (ws_ yX4_isWord cX4_isWord 3 (some .boolean)) 1 20 [.ref h, .long x1] (twS h σ S) (some (.int res)) (twS h σ S) := by
  refine CM.of hE (by decide) rfl rfl (Nat.le_of_ble_eq_true rfl) ?_
  intro p e s m below meth c X I ls hl
  exact wX4_isWord_0 ⟨Nat.le_refl _, Nat.le_refl _⟩ X _ _ _ _ _ _ I hl hf
/-! passes(J)Z -/
theorem lvX4_passes : GoodIn lw_all (wsV RX4 233 RX4 yX4_passes (ws_ yX4_passes cX4_passes 3 (some .boolean))) := lw_V q2907 q2909 qs54 q120 q2910
theorem hdX4_passes : yX4_passes.cls = RX4 ∧ yX4_passes.cls ≠ "java/lang/invoke/MethodHandle" ∧ yX4_passes.cls ≠ "java/lang/invoke/VarHandle" ∧ (parseMethodDescriptor yX4_passes.desc).map (fun d => d.parameters.length) = some 1 := by decide +kernel
theorem wX4_passes_0 {E : EV} {l : Launch} {p : Program} {e : Env} {s : State} {m : MethodId} {args : Array Value} {below : List Frame} {meth : Method} {c : Code} {R : Room} {h : Nat} {S : St} {res : (Int32 × TS)} (hR : 3 ≤ R.frames ∧ 61 ≤ R.locals) (X : MX E p s m args meth c cX4_passes 3 (some .boolean) RX4 "passes") (N : Nat) : ∀ (x1 : Int64) (σ : TS) (H : Heap) (locs : List Loc) (cells slots : Nat) (ls : Array Slot), WI E R s (twS h σ S) H locs cells slots → lv_has ls 3 [(0, .ref h), (1, .long x1)] → fX4_passes N σ x1 = some res → W p l e R s m args below meth c H locs cells slots (MQ below (Qd E R.cells R.slots (some (.int res.1)) (twS h res.2 S)) args s R.cells R.slots (fr E)) (F0 m 0 ls []) := by
  intro x1 σ H locs cells slots ls I hl hf
  obtain ⟨⟨hx, hb, hml, hown, hts⟩, -⟩ := id X
  unfold fX4_passes at hf
  refine lv_aload_n hx hb dX4_passes_0 rfl (lv_at hl 0 rfl) ?_
  refine lv_lload_n hx hb dX4_passes_1 rfl (lv_at hl 1 rfl) ?_
  obtain ⟨v_1, ev_1, hf⟩ := ob hf
  refine tw_V (some (.int v_1)) (rs := [.int v_1]) (rest := []) (As := [.long x1]) X I (mX4_isWord X.2.2.2.2.1 ev_1) lvX4_isWord hdX4_isWord ⟨Nat.le_trans (Nat.le_of_ble_eq_true rfl) hR.1, Nat.le_trans (Nat.le_of_ble_eq_true rfl) hR.2⟩ rfl hl.1 rfl (Nat.le_of_ble_eq_true rfl) rfl dX4_passes_2 (fun H locs cells slots I => ?_)
  refine lv_if_ne (tgt := 10) hx hb dX4_passes_5 (by decide) (fun c_5 => ?_) (fun c_5 => ?_)
  · have hf := im c_5 hf
    refine lv_aload_n hx hb dX4_passes_10 rfl (lv_at hl 0 rfl) ?_
    obtain ⟨σ_4, eσ_4, hf⟩ := ob hf
    refine tw_V none (rs := []) (rest := []) (As := []) X I (mX4_next X.2.2.2.2.1 eσ_4) lvX4_next hdX4_next ⟨Nat.le_trans (Nat.le_of_ble_eq_true rfl) hR.1, Nat.le_trans (Nat.le_of_ble_eq_true rfl) hR.2⟩ rfl hl.1 rfl (Nat.le_of_ble_eq_true rfl) rfl dX4_passes_11 (fun H locs cells slots I => ?_)
    refine lv_iconst (v := 1) hx hb dX4_passes_14 (by decide) ?_
    cases os hf
    exact r_zret X I (Or.inr rfl) dX4_passes_15
  · have hf := ip c_5 hf
    refine lv_iconst (v := 0) hx hb dX4_passes_8 (by decide) ?_
    cases os hf
    exact r_zret X I (Or.inl rfl) dX4_passes_9
theorem mX4_passes {E : EV} {l : Launch} {h : Nat} {S : St} {N : Nat} {σ : TS} {x1 : Int64} {res : (Int32 × TS)} (hE : EK E) (hf : fX4_passes N σ x1 = some res) : CM E l yX4_passes (ws_ yX4_passes cX4_passes 3 (some .boolean)) 3 61 [.ref h, .long x1] (twS h σ S) (some (.int res.1)) (twS h res.2 S) := by
  refine CM.of hE (by decide) rfl rfl (Nat.le_of_ble_eq_true rfl) ?_
  intro p e s m below meth c X I ls hl
  exact wX4_passes_0 ⟨Nat.le_refl _, Nat.le_refl _⟩ X N _ _ _ _ _ _ _ I hl hf
/-! wrongs(I)Z -/
theorem lvX4_wrongs : GoodIn lw_all (wsV RX4 194 RX4 yX4_wrongs (ws_ yX4_wrongs cX4_wrongs 2 (some .boolean))) := lw_V q2919 q2921 qs57 q120 q2922
theorem hdX4_wrongs : yX4_wrongs.cls = RX4 ∧ yX4_wrongs.cls ≠ "java/lang/invoke/MethodHandle" ∧ yX4_wrongs.cls ≠ "java/lang/invoke/VarHandle" ∧ (parseMethodDescriptor yX4_wrongs.desc).map (fun d => d.parameters.length) = some 1 := by decide +kernel
theorem wX4_wrongs_0 {E : EV} {l : Launch} {p : Program} {e : Env} {s : State} {m : MethodId} {args : Array Value} {below : List Frame} {meth : Method} {c : Code} {R : Room} {h : Nat} {S : St} {res : (Int32 × TS)} (hR : 0 ≤ R.frames ∧ 0 ≤ R.locals) (X : MX E p s m args meth c cX4_wrongs 2 (some .boolean) RX4 "wrongs") : ∀ (x1 : Int32) (σ : TS) (H : Heap) (locs : List Loc) (cells slots : Nat) (ls : Array Slot), WI E R s (twS h σ S) H locs cells slots → lv_has ls 2 [(0, .ref h), (1, .int x1)] → fX4_wrongs σ x1 = some res → W p l e R s m args below meth c H locs cells slots (MQ below (Qd E R.cells R.slots (some (.int res.1)) (twS h res.2 S)) args s R.cells R.slots (fr E)) (F0 m 0 ls []) := by
  intro x1 σ H locs cells slots ls I hl hf
  obtain ⟨⟨hx, hb, hml, hown, hts⟩, -⟩ := id X
  unfold fX4_wrongs at hf
  refine lv_aload_n hx hb dX4_wrongs_0 rfl (lv_at hl 0 rfl) ?_
  refine tw_get X I 30 (v := .int (σ.1 0 30)) (by decide) q2717 rfl dX4_wrongs_1 ?_
  refine lv_if_ne (tgt := 20) hx hb dX4_wrongs_4 (by decide) (fun c_4 => ?_) (fun c_4 => ?_)
  · have hf := im c_4 hf
    refine lv_iconst (v := 0) hx hb dX4_wrongs_20 (by decide) ?_
    cases os hf
    exact r_zret X I (Or.inl rfl) dX4_wrongs_21
  · have hf := ip c_4 hf
    refine lv_aload_n hx hb dX4_wrongs_7 rfl (lv_at hl 0 rfl) ?_
    refine lv_iload_n hx hb dX4_wrongs_8 rfl (lv_at hl 1 rfl) ?_
    obtain ⟨σ_1, eσ_1, hf⟩ := ol hf
    refine tw_put X I 30 (ty := .int) (by decide) (by decide) rfl q2717 rfl rfl rfl rfl eσ_1 dX4_wrongs_9 (fun H locs I => ?_)
    refine lv_aload_n hx hb dX4_wrongs_12 rfl (lv_at hl 0 rfl) ?_
    refine lv_aload_n hx hb dX4_wrongs_13 rfl (lv_at hl 0 rfl) ?_
    refine tw_get X I 26 (v := .int (σ_1.1 0 26)) (by decide) q2713 rfl dX4_wrongs_14 ?_
    obtain ⟨σ_2, eσ_2, hf⟩ := ol hf
    refine tw_put X I 31 (ty := .int) (by decide) (by decide) rfl q2718 rfl rfl rfl rfl eσ_2 dX4_wrongs_17 (fun H locs I => ?_)
    refine lv_iconst (v := 0) hx hb dX4_wrongs_20 (by decide) ?_
    cases os hf
    exact r_zret X I (Or.inl rfl) dX4_wrongs_21
theorem mX4_wrongs {E : EV} {l : Launch} {h : Nat} {S : St} {σ : TS} {x1 : Int32} {res : (Int32 × TS)} (hE : EK E) (hf : fX4_wrongs σ x1 = some res) : CM E l yX4_wrongs (ws_ yX4_wrongs cX4_wrongs 2 (some .boolean)) 0 0 [.ref h, .int x1] (twS h σ S) (some (.int res.1)) (twS h res.2 S) := by
  refine CM.of hE (by decide) rfl rfl (Nat.le_of_ble_eq_true rfl) ?_
  intro p e s m below meth c X I ls hl
  exact wX4_wrongs_0 ⟨Nat.le_refl _, Nat.le_refl _⟩ X _ _ _ _ _ _ _ I hl hf
/-! number(II)I -/
theorem lvX4_number : GoodIn lw_all (wsV RX4 215 RX4 yX4_number (ws_ yX4_number cX4_number 4 (some .int))) := lw_V q2923 q2925 qs58 q120 q2926
theorem hdX4_number : yX4_number.cls = RX4 ∧ yX4_number.cls ≠ "java/lang/invoke/MethodHandle" ∧ yX4_number.cls ≠ "java/lang/invoke/VarHandle" ∧ (parseMethodDescriptor yX4_number.desc).map (fun d => d.parameters.length) = some 2 := by decide +kernel
theorem wX4_number_47 {E : EV} {l : Launch} {p : Program} {e : Env} {s : State} {m : MethodId} {args : Array Value} {below : List Frame} {meth : Method} {c : Code} {R : Room} {h : Nat} {S : St} {res : (Int32 × TS)} (hR : 3 ≤ R.frames ∧ 61 ≤ R.locals) (X : MX E p s m args meth c cX4_number 4 (some .int) RX4 "number") (N : Nat) : ∀ (x1 : Int32) (σ : TS) (H : Heap) (locs : List Loc) (cells slots : Nat) (ls : Array Slot), WI E R s (twS h σ S) H locs cells slots → lv_has ls 4 [(0, .ref h), (1, .int x1)] → fX4_number_47 N x1 σ = some res → W p l e R s m args below meth c H locs cells slots (MQ below (Qd E R.cells R.slots (some (.int res.1)) (twS h res.2 S)) args s R.cells R.slots (fr E)) (F0 m 47 ls []) := by
  intro x1 σ H locs cells slots ls I hl hf
  obtain ⟨⟨hx, hb, hml, hown, hts⟩, -⟩ := id X
  unfold fX4_number_47 at hf
  refine lv_aload_n hx hb dX4_number_47 rfl (lv_at hl 0 rfl) ?_
  obtain ⟨v_1, ev_1, hf⟩ := ob hf
  refine tw_V (some (.int v_1)) (rs := [.int v_1]) (rest := []) (As := []) X I (mX4_isGood X.2.2.2.2.1 ev_1) lvX4_isGood hdX4_isGood ⟨Nat.le_trans (Nat.le_of_ble_eq_true rfl) hR.1, Nat.le_trans (Nat.le_of_ble_eq_true rfl) hR.2⟩ rfl hl.1 rfl (Nat.le_of_ble_eq_true rfl) rfl dX4_number_48 (fun H locs cells slots I => ?_)
  refine lv_if_ne (tgt := 56) hx hb dX4_number_51 (by decide) (fun c_51 => ?_) (fun c_51 => ?_)
  · have hf := im c_51 hf
    refine lv_aload_n hx hb dX4_number_56 rfl (lv_at hl 0 rfl) ?_
    refine tw_get X I 28 (v := .int (σ.1 0 28)) (by decide) q2715 rfl dX4_number_57 ?_
    refine lv_istore_n (lv' := [(3, .int (σ.1 0 28)), (0, .ref h), (1, .int x1)]) hx hb dX4_number_60 rfl hl (by decide) rfl (fun ls hl => ?_)
    refine lv_aload_n hx hb dX4_number_61 rfl (lv_at hl 1 rfl) ?_
    obtain ⟨σ_4, eσ_4, hf⟩ := ob hf
    refine tw_V none (rs := []) (rest := []) (As := []) X I (mX4_next X.2.2.2.2.1 eσ_4) lvX4_next hdX4_next ⟨Nat.le_trans (Nat.le_of_ble_eq_true rfl) hR.1, Nat.le_trans (Nat.le_of_ble_eq_true rfl) hR.2⟩ rfl hl.1 rfl (Nat.le_of_ble_eq_true rfl) rfl dX4_number_62 (fun H locs cells slots I => ?_)
    refine lv_iload_n hx hb dX4_number_65 rfl (lv_at hl 0 rfl) ?_
    cases os hf
    exact r_iret X I dX4_number_66
  · have hf := ip c_51 hf
    refine lv_iload_n hx hb dX4_number_54 rfl (lv_at hl 1 rfl) ?_
    cases os hf
    exact r_iret X I dX4_number_55
theorem wX4_number_0 {E : EV} {l : Launch} {p : Program} {e : Env} {s : State} {m : MethodId} {args : Array Value} {below : List Frame} {meth : Method} {c : Code} {R : Room} {h : Nat} {S : St} {res : (Int32 × TS)} (hR : 3 ≤ R.frames ∧ 61 ≤ R.locals) (X : MX E p s m args meth c cX4_number 4 (some .int) RX4 "number") (N : Nat) : ∀ (x1 : Int32) (x2 : Int32) (σ : TS) (H : Heap) (locs : List Loc) (cells slots : Nat) (ls : Array Slot), WI E R s (twS h σ S) H locs cells slots → lv_has ls 4 [(0, .ref h), (1, .int x1), (2, .int x2)] → fX4_number N σ x1 x2 = some res → W p l e R s m args below meth c H locs cells slots (MQ below (Qd E R.cells R.slots (some (.int res.1)) (twS h res.2 S)) args s R.cells R.slots (fr E)) (F0 m 0 ls []) := by
  intro x1 x2 σ H locs cells slots ls I hl hf
  obtain ⟨⟨hx, hb, hml, hown, hts⟩, -⟩ := id X
  unfold fX4_number at hf
  refine lv_aload_n hx hb dX4_number_0 rfl (lv_at hl 0 rfl) ?_
  obtain ⟨v_5, ev_5, hf⟩ := ob hf
  refine tw_V (some (.int v_5)) (rs := [.int v_5]) (rest := []) (As := []) X I (mX4_isGood X.2.2.2.2.1 ev_5) lvX4_isGood hdX4_isGood ⟨Nat.le_trans (Nat.le_of_ble_eq_true rfl) hR.1, Nat.le_trans (Nat.le_of_ble_eq_true rfl) hR.2⟩ rfl hl.1 rfl (Nat.le_of_ble_eq_true rfl) rfl dX4_number_1 (fun H locs cells slots I => ?_)
  refine lv_if_ne (tgt := 9) hx hb dX4_number_4 (by decide) (fun c_4 => ?_) (fun c_4 => ?_)
  · have hf := im c_4 hf
    refine lv_aload_n hx hb dX4_number_9 rfl (lv_at hl 0 rfl) ?_
    refine tw_get X I 27 (v := .int (σ.1 0 27)) (by decide) q2714 rfl dX4_number_10 ?_
    refine lv_iconst (v := 2) hx hb dX4_number_13 (by decide) ?_
    refine lv_icmp_eq (tgt := 26) hx hb dX4_number_14 (by decide) (fun c_14 => ?_) (fun c_14 => ?_)
    · have hf := ip c_14 hf
      refine lv_aload_n hx hb dX4_number_26 rfl (lv_at hl 0 rfl) ?_
      refine tw_get X I 28 (v := .int (σ.1 0 28)) (by decide) q2715 rfl dX4_number_27 ?_
      refine lv_i2l hx hb dX4_number_30 rfl ?_
      refine lv_iload_n hx hb dX4_number_31 rfl (lv_at hl 1 rfl) ?_
      refine lv_i2l hx hb dX4_number_32 rfl ?_
      refine lv_iload_n hx hb dX4_number_33 rfl (lv_at hl 2 rfl) ?_
      refine lv_i2l hx hb dX4_number_34 rfl ?_
      obtain ⟨v_7, ev_7, hf⟩ := ob hf
      refine tw_S (some (.int v_7)) (rs := [.int v_7]) (rest := []) (As := [.long ((σ.1 0 28).toInt64), .long (x1.toInt64), .long (x2.toInt64)]) X I (mX4_in X.2.2.2.2.1 ev_7) lvX4_in hdX4_in ⟨Nat.le_trans (Nat.le_of_ble_eq_true rfl) hR.1, Nat.le_trans (Nat.le_of_ble_eq_true rfl) hR.2⟩ rfl hl.1 rfl (Nat.le_of_ble_eq_true rfl) rfl dX4_number_35 (fun H locs cells slots I => ?_)
      refine lv_if_ne (tgt := 47) hx hb dX4_number_38 (by decide) (fun c_38 => ?_) (fun c_38 => ?_)
      · have hf := im c_38 hf
        exact wX4_number_47 hR X N _ _ _ _ _ _ _ I (lv_sub hl [0, 1] rfl) hf
      · have hf := ip c_38 hf
        refine lv_aload_n hx hb dX4_number_41 rfl (lv_at hl 0 rfl) ?_
        refine lv_iconst (v := 2) hx hb dX4_number_42 (by decide) ?_
        obtain ⟨v_9, ev_9, hf⟩ := ob hf
        refine tw_V (some (.int v_9.1)) (rs := [.int v_9.1]) (rest := []) (As := [.int (2 : Int32)]) X I (mX4_wrongs X.2.2.2.2.1 ev_9) lvX4_wrongs hdX4_wrongs ⟨Nat.le_trans (Nat.le_of_ble_eq_true rfl) hR.1, Nat.le_trans (Nat.le_of_ble_eq_true rfl) hR.2⟩ rfl hl.1 rfl (Nat.le_of_ble_eq_true rfl) rfl dX4_number_43 (fun H locs cells slots I => ?_)
        refine lv_pop hx hb dX4_number_46 rfl ?_
        exact wX4_number_47 hR X N _ _ _ _ _ _ _ I (lv_sub hl [0, 1] rfl) hf
    · have hf := im c_14 hf
      refine lv_aload_n hx hb dX4_number_17 rfl (lv_at hl 0 rfl) ?_
      refine lv_iconst (v := 1) hx hb dX4_number_18 (by decide) ?_
      obtain ⟨v_11, ev_11, hf⟩ := ob hf
      refine tw_V (some (.int v_11.1)) (rs := [.int v_11.1]) (rest := []) (As := [.int (1 : Int32)]) X I (mX4_wrongs X.2.2.2.2.1 ev_11) lvX4_wrongs hdX4_wrongs ⟨Nat.le_trans (Nat.le_of_ble_eq_true rfl) hR.1, Nat.le_trans (Nat.le_of_ble_eq_true rfl) hR.2⟩ rfl hl.1 rfl (Nat.le_of_ble_eq_true rfl) rfl dX4_number_19 (fun H locs cells slots I => ?_)
      refine lv_pop hx hb dX4_number_22 rfl ?_
      refine lv_goto (tgt := 47) hx hb dX4_number_23 (by decide) ?_
      exact wX4_number_47 hR X N _ _ _ _ _ _ _ I (lv_sub hl [0, 1] rfl) hf
  · have hf := ip c_4 hf
    refine lv_iload_n hx hb dX4_number_7 rfl (lv_at hl 1 rfl) ?_
    cases os hf
    exact r_iret X I dX4_number_8
theorem mX4_number {E : EV} {l : Launch} {h : Nat} {S : St} {N : Nat} {σ : TS} {x1 : Int32} {x2 : Int32} {res : (Int32 × TS)} (hE : EK E) (hf : fX4_number N σ x1 x2 = some res) : CM E l yX4_number (ws_ yX4_number cX4_number 4 (some .int)) 3 61 [.ref h, .int x1, .int x2] (twS h σ S) (some (.int res.1)) (twS h res.2 S) := by
  refine CM.of hE (by decide) rfl rfl (Nat.le_of_ble_eq_true rfl) ?_
  intro p e s m below meth c X I ls hl
  exact wX4_number_0 ⟨Nat.le_refl _, Nat.le_refl _⟩ X N _ _ _ _ _ _ _ _ I hl hf
/-! isByte(I)Z -/
theorem lvX4_isByte : GoodIn lw_all (wsV RX4 191 RX4 yX4_isByte (ws_ yX4_isByte cX4_isByte 2 (some .boolean))) := lw_V q2931 q2933 qs60 q120 q2934
theorem hdX4_isByte : yX4_isByte.cls = RX4 ∧ yX4_isByte.cls ≠ "java/lang/invoke/MethodHandle" ∧ yX4_isByte.cls ≠ "java/lang/invoke/VarHandle" ∧ (parseMethodDescriptor yX4_isByte.desc).map (fun d => d.parameters.length) = some 1 := by decide +kernel
theorem wX4_isByte_0 {E : EV} {l : Launch} {p : Program} {e : Env} {s : State} {m : MethodId} {args : Array Value} {below : List Frame} {meth : Method} {c : Code} {R : Room} {h : Nat} {S : St} {σ : TS} {res : Int32} (hR : 1 ≤ R.frames ∧ 20 ≤ R.locals) (X : MX E p s m args meth c cX4_isByte 2 (some .boolean) RX4 "isByte") : ∀ (x1 : Int32) (H : Heap) (locs : List Loc) (cells slots : Nat) (ls : Array Slot), WI E R s (twS h σ S) H locs cells slots → lv_has ls 2 [(0, .ref h), (1, .int x1)] → fX4_isByte σ x1 = some res → W p l e R s m args below meth c H locs cells slots (MQ below (Qd E R.cells R.slots (some (.int res)) (twS h σ S)) args s R.cells R.slots (fr E)) (F0 m 0 ls []) := by
  intro x1 H locs cells slots ls I hl hf
  obtain ⟨⟨hx, hb, hml, hown, hts⟩, -⟩ := id X
  unfold fX4_isByte at hf
  refine lv_aload_n hx hb dX4_isByte_0 rfl (lv_at hl 0 rfl) ?_
  obtain ⟨v_1, ev_1, hf⟩ := ob hf
  refine tw_V (some (.int v_1)) (rs := [.int v_1]) (rest := []) (As := []) X I (mX4_isGood X.2.2.2.2.1 ev_1) lvX4_isGood hdX4_isGood ⟨Nat.le_trans (Nat.le_of_ble_eq_true rfl) hR.1, Nat.le_trans (Nat.le_of_ble_eq_true rfl) hR.2⟩ rfl hl.1 rfl (Nat.le_of_ble_eq_true rfl) rfl dX4_isByte_1 (fun H locs cells slots I => ?_)
  refine lv_if_eq (tgt := 32) hx hb dX4_isByte_4 (by decide) (fun c_4 => ?_) (fun c_4 => ?_)
  · have hf := ip c_4 hf
    refine lv_iconst (v := 0) hx hb dX4_isByte_32 (by decide) ?_
    cases os hf
    exact r_zret X I (Or.inl rfl) dX4_isByte_33
  · have hf := im c_4 hf
    refine lv_aload_n hx hb dX4_isByte_7 rfl (lv_at hl 0 rfl) ?_
    refine tw_get X I 27 (v := .int (σ.1 0 27)) (by decide) q2714 rfl dX4_isByte_8 ?_
    refine lv_iconst (v := 3) hx hb dX4_isByte_11 (by decide) ?_
    refine lv_icmp_ne (tgt := 32) hx hb dX4_isByte_12 (by decide) (fun c_12 => ?_) (fun c_12 => ?_)
    · have hf := im c_12 hf
      refine lv_iconst (v := 0) hx hb dX4_isByte_32 (by decide) ?_
      cases os hf
      exact r_zret X I (Or.inl rfl) dX4_isByte_33
    · have hf := ip c_12 hf
      refine lv_aload_n hx hb dX4_isByte_15 rfl (lv_at hl 0 rfl) ?_
      refine tw_get X I 22 (v := .ref (h + 12)) (by decide) q2709 rfl dX4_isByte_16 ?_
      refine lv_aload_n hx hb dX4_isByte_19 rfl (lv_at hl 0 rfl) ?_
      refine tw_get X I 26 (v := .int (σ.1 0 26)) (by decide) q2713 rfl dX4_isByte_20 ?_
      obtain ⟨v_3, ev_3, hf⟩ := ob hf
      refine tw_ald X I 12 (by decide) (by decide) (by decide) ev_3 dX4_isByte_23 ?_
      refine lv_iload_n hx hb dX4_isByte_24 rfl (lv_at hl 1 rfl) ?_
      refine lv_icmp_ne (tgt := 32) hx hb dX4_isByte_25 (by decide) (fun c_25 => ?_) (fun c_25 => ?_)
      · have hf := im c_25 hf
        refine lv_iconst (v := 0) hx hb dX4_isByte_32 (by decide) ?_
        cases os hf
        exact r_zret X I (Or.inl rfl) dX4_isByte_33
      · have hf := ip c_25 hf
        refine lv_iconst (v := 1) hx hb dX4_isByte_28 (by decide) ?_
        refine lv_goto (tgt := 33) hx hb dX4_isByte_29 (by decide) ?_
        cases os hf
        exact r_zret X I (Or.inr rfl) dX4_isByte_33
theorem mX4_isByte {E : EV} {l : Launch} {h : Nat} {S : St} {σ : TS} {x1 : Int32} {res : Int32} (hE : EK E) (hf : fX4_isByte σ x1 = some res) : CM E l yX4_isByte (ws_ yX4_isByte cX4_isByte 2 (some .boolean)) 1 20 [.ref h, .int x1] (twS h σ S) (some (.int res)) (twS h σ S) := by
  refine CM.of hE (by decide) rfl rfl (Nat.le_of_ble_eq_true rfl) ?_
  intro p e s m below meth c X I ls hl
  exact wX4_isByte_0 ⟨Nat.le_refl _, Nat.le_refl _⟩ X _ _ _ _ _ _ I hl hf
/-! must(I)V -/
theorem lvX4_must : GoodIn lw_all (wsV RX4 253 RX4 yX4_must (ws_ yX4_must cX4_must 2 none)) := lw_V q2927 q2929 qs59 q120 q2930
theorem hdX4_must : yX4_must.cls = RX4 ∧ yX4_must.cls ≠ "java/lang/invoke/MethodHandle" ∧ yX4_must.cls ≠ "java/lang/invoke/VarHandle" ∧ (parseMethodDescriptor yX4_must.desc).map (fun d => d.parameters.length) = some 1 := by decide +kernel
theorem wX4_must_0 {E : EV} {l : Launch} {p : Program} {e : Env} {s : State} {m : MethodId} {args : Array Value} {below : List Frame} {meth : Method} {c : Code} {R : Room} {h : Nat} {S : St} {res : TS} (hR : 3 ≤ R.frames ∧ 61 ≤ R.locals) (X : MX E p s m args meth c cX4_must 2 none RX4 "must") (N : Nat) : ∀ (x1 : Int32) (σ : TS) (H : Heap) (locs : List Loc) (cells slots : Nat) (ls : Array Slot), WI E R s (twS h σ S) H locs cells slots → lv_has ls 2 [(0, .ref h), (1, .int x1)] → fX4_must N σ x1 = some res → W p l e R s m args below meth c H locs cells slots (MQ below (Qd E R.cells R.slots none (twS h res S)) args s R.cells R.slots (fr E)) (F0 m 0 ls []) := by
  intro x1 σ H locs cells slots ls I hl hf
  obtain ⟨⟨hx, hb, hml, hown, hts⟩, -⟩ := id X
  unfold fX4_must at hf
  refine lv_aload_n hx hb dX4_must_0 rfl (lv_at hl 0 rfl) ?_
  obtain ⟨v_1, ev_1, hf⟩ := ob hf
  refine tw_V (some (.int v_1)) (rs := [.int v_1]) (rest := []) (As := []) X I (mX4_isGood X.2.2.2.2.1 ev_1) lvX4_isGood hdX4_isGood ⟨Nat.le_trans (Nat.le_of_ble_eq_true rfl) hR.1, Nat.le_trans (Nat.le_of_ble_eq_true rfl) hR.2⟩ rfl hl.1 rfl (Nat.le_of_ble_eq_true rfl) rfl dX4_must_1 (fun H locs cells slots I => ?_)
  refine lv_if_ne (tgt := 8) hx hb dX4_must_4 (by decide) (fun c_4 => ?_) (fun c_4 => ?_)
  · have hf := im c_4 hf
    refine lv_aload_n hx hb dX4_must_8 rfl (lv_at hl 0 rfl) ?_
    refine lv_iload_n hx hb dX4_must_9 rfl (lv_at hl 1 rfl) ?_
    obtain ⟨v_3, ev_3, hf⟩ := ob hf
    refine tw_V (some (.int v_3)) (rs := [.int v_3]) (rest := []) (As := [.int x1]) X I (mX4_isByte X.2.2.2.2.1 ev_3) lvX4_isByte hdX4_isByte ⟨Nat.le_trans (Nat.le_of_ble_eq_true rfl) hR.1, Nat.le_trans (Nat.le_of_ble_eq_true rfl) hR.2⟩ rfl hl.1 rfl (Nat.le_of_ble_eq_true rfl) rfl dX4_must_10 (fun H locs cells slots I => ?_)
    refine lv_if_eq (tgt := 23) hx hb dX4_must_13 (by decide) (fun c_13 => ?_) (fun c_13 => ?_)
    · have hf := ip c_13 hf
      refine lv_aload_n hx hb dX4_must_23 rfl (lv_at hl 0 rfl) ?_
      refine lv_iconst (v := 1) hx hb dX4_must_24 (by decide) ?_
      obtain ⟨v_5, ev_5, hf⟩ := ob hf
      refine tw_V (some (.int v_5.1)) (rs := [.int v_5.1]) (rest := []) (As := [.int (1 : Int32)]) X I (mX4_wrongs X.2.2.2.2.1 ev_5) lvX4_wrongs hdX4_wrongs ⟨Nat.le_trans (Nat.le_of_ble_eq_true rfl) hR.1, Nat.le_trans (Nat.le_of_ble_eq_true rfl) hR.2⟩ rfl hl.1 rfl (Nat.le_of_ble_eq_true rfl) rfl dX4_must_25 (fun H locs cells slots I => ?_)
      refine lv_pop hx hb dX4_must_28 rfl ?_
      cases os hf
      exact r_vret X I dX4_must_29
    · have hf := im c_13 hf
      refine lv_aload_n hx hb dX4_must_16 rfl (lv_at hl 0 rfl) ?_
      obtain ⟨σ_8, eσ_8, hf⟩ := ob hf
      refine tw_V none (rs := []) (rest := []) (As := []) X I (mX4_next X.2.2.2.2.1 eσ_8) lvX4_next hdX4_next ⟨Nat.le_trans (Nat.le_of_ble_eq_true rfl) hR.1, Nat.le_trans (Nat.le_of_ble_eq_true rfl) hR.2⟩ rfl hl.1 rfl (Nat.le_of_ble_eq_true rfl) rfl dX4_must_17 (fun H locs cells slots I => ?_)
      refine lv_goto (tgt := 29) hx hb dX4_must_20 (by decide) ?_
      cases os hf
      exact r_vret X I dX4_must_29
  · have hf := ip c_4 hf
    cases os hf
    exact r_vret X I dX4_must_7
theorem mX4_must {E : EV} {l : Launch} {h : Nat} {S : St} {N : Nat} {σ : TS} {x1 : Int32} {res : TS} (hE : EK E) (hf : fX4_must N σ x1 = some res) : CM E l yX4_must (ws_ yX4_must cX4_must 2 none) 3 61 [.ref h, .int x1] (twS h σ S) none (twS h res S) := by
  refine CM.of hE (by decide) rfl rfl (Nat.le_of_ble_eq_true rfl) ?_
  intro p e s m below meth c X I ls hl
  exact wX4_must_0 ⟨Nat.le_refl _, Nat.le_refl _⟩ X N _ _ _ _ _ _ _ I hl hf
/-! roadRead()V -/
theorem lvX4_roadRead : GoodIn lw_all (wsV RX4 236 RX4 yX4_roadRead (ws_ yX4_roadRead cX4_roadRead 4 none)) := lw_V q2940 q2942 qs62 q120 q2943
theorem hdX4_roadRead : yX4_roadRead.cls = RX4 ∧ yX4_roadRead.cls ≠ "java/lang/invoke/MethodHandle" ∧ yX4_roadRead.cls ≠ "java/lang/invoke/VarHandle" ∧ (parseMethodDescriptor yX4_roadRead.desc).map (fun d => d.parameters.length) = some 0 := by decide +kernel
theorem wX4_roadRead_77 {E : EV} {l : Launch} {p : Program} {e : Env} {s : State} {m : MethodId} {args : Array Value} {below : List Frame} {meth : Method} {c : Code} {R : Room} {h : Nat} {S : St} {res : TS} (hR : 4 ≤ R.frames ∧ 84 ≤ R.locals) (X : MX E p s m args meth c cX4_roadRead 4 none RX4 "roadRead") (N : Nat) : ∀ (x1 : Int32) (σ : TS) (H : Heap) (locs : List Loc) (cells slots : Nat) (ls : Array Slot), WI E R s (twS h σ S) H locs cells slots → lv_has ls 4 [(0, .ref h), (1, .int x1)] → fX4_roadRead_77 N x1 σ = some res → W p l e R s m args below meth c H locs cells slots (MQ below (Qd E R.cells R.slots none (twS h res S)) args s R.cells R.slots (fr E)) (F0 m 77 ls []) := by
  intro x1 σ H locs cells slots ls I hl hf
  obtain ⟨⟨hx, hb, hml, hown, hts⟩, -⟩ := id X
  unfold fX4_roadRead_77 at hf
  refine lv_aload_n hx hb dX4_roadRead_77 rfl (lv_at hl 0 rfl) ?_
  refine lv_iconst (v := 0) hx hb dX4_roadRead_78 (by decide) ?_
  refine lv_aload_n hx hb dX4_roadRead_79 rfl (lv_at hl 0 rfl) ?_
  refine tw_get X I 7 (v := .int (σ.1 0 7)) (by decide) q2694 rfl dX4_roadRead_80 ?_
  refine lv_iconst (v := 1) hx hb dX4_roadRead_83 (by decide) ?_
  refine lv_isub hx hb dX4_roadRead_84 ?_
  obtain ⟨v_1, ev_1, hf⟩ := ob hf
  refine tw_V (some (.int v_1.1)) (rs := [.int v_1.1]) (rest := []) (As := [.int (0 : Int32), .int ((σ.1 0 7) - (1 : Int32))]) X I (mX4_number X.2.2.2.2.1 ev_1) lvX4_number hdX4_number ⟨Nat.le_trans (Nat.le_of_ble_eq_true rfl) hR.1, Nat.le_trans (Nat.le_of_ble_eq_true rfl) hR.2⟩ rfl hl.1 rfl (Nat.le_of_ble_eq_true rfl) rfl dX4_roadRead_85 (fun H locs cells slots I => ?_)
  refine lv_istore_n (lv' := [(2, .int v_1.1), (0, .ref h), (1, .int x1)]) hx hb dX4_roadRead_88 rfl hl (by decide) rfl (fun ls hl => ?_)
  refine lv_aload_n hx hb dX4_roadRead_89 rfl (lv_at hl 1 rfl) ?_
  refine lv_iconst (v := 1) hx hb dX4_roadRead_90 (by decide) ?_
  refine lv_bipush (v := 99) hx hb dX4_roadRead_91 (by decide) ?_
  obtain ⟨v_3, ev_3, hf⟩ := ob hf
  refine tw_V (some (.int v_3.1)) (rs := [.int v_3.1]) (rest := []) (As := [.int (1 : Int32), .int (99 : Int32)]) X I (mX4_number X.2.2.2.2.1 ev_3) lvX4_number hdX4_number ⟨Nat.le_trans (Nat.le_of_ble_eq_true rfl) hR.1, Nat.le_trans (Nat.le_of_ble_eq_true rfl) hR.2⟩ rfl hl.1 rfl (Nat.le_of_ble_eq_true rfl) rfl dX4_roadRead_93 (fun H locs cells slots I => ?_)
  refine lv_istore_n (lv' := [(3, .int v_3.1), (2, .int v_1.1), (0, .ref h), (1, .int x1)]) hx hb dX4_roadRead_96 rfl hl (by decide) rfl (fun ls hl => ?_)
  refine lv_aload_n hx hb dX4_roadRead_97 rfl (lv_at hl 2 rfl) ?_
  obtain ⟨v_5, ev_5, hf⟩ := ob hf
  refine tw_V (some (.int v_5)) (rs := [.int v_5]) (rest := []) (As := []) X I (mX4_isGood X.2.2.2.2.1 ev_5) lvX4_isGood hdX4_isGood ⟨Nat.le_trans (Nat.le_of_ble_eq_true rfl) hR.1, Nat.le_trans (Nat.le_of_ble_eq_true rfl) hR.2⟩ rfl hl.1 rfl (Nat.le_of_ble_eq_true rfl) rfl dX4_roadRead_98 (fun H locs cells slots I => ?_)
  refine lv_if_ne (tgt := 105) hx hb dX4_roadRead_101 (by decide) (fun c_101 => ?_) (fun c_101 => ?_)
  · have hf := im c_101 hf
    refine lv_aload_n hx hb dX4_roadRead_105 rfl (lv_at hl 2 rfl) ?_
    refine tw_get X I 11 (v := .ref (h + 5)) (by decide) q2698 rfl dX4_roadRead_106 ?_
    refine lv_bipush (v := 8) hx hb dX4_roadRead_109 (by decide) ?_
    refine lv_iload_n hx hb dX4_roadRead_111 rfl (lv_at hl 3 rfl) ?_
    refine lv_imul hx hb dX4_roadRead_112 ?_
    refine lv_iload_n hx hb dX4_roadRead_113 rfl (lv_at hl 1 rfl) ?_
    refine lv_iadd hx hb dX4_roadRead_114 ?_
    refine lv_iload_n hx hb dX4_roadRead_115 rfl (lv_at hl 0 rfl) ?_
    obtain ⟨σ_7, eσ_7, hf⟩ := ob hf
    refine tw_ast X I 5 (by decide) (by decide) (by decide) eσ_7 dX4_roadRead_116 (fun H locs I => ?_)
    refine lv_aload_n hx hb dX4_roadRead_117 rfl (lv_at hl 2 rfl) ?_
    refine tw_get X I 11 (v := .ref (h + 5)) (by decide) q2698 rfl dX4_roadRead_118 ?_
    refine lv_bipush (v := 8) hx hb dX4_roadRead_121 (by decide) ?_
    refine lv_iload_n hx hb dX4_roadRead_123 rfl (lv_at hl 1 rfl) ?_
    refine lv_imul hx hb dX4_roadRead_124 ?_
    refine lv_iload_n hx hb dX4_roadRead_125 rfl (lv_at hl 3 rfl) ?_
    refine lv_iadd hx hb dX4_roadRead_126 ?_
    refine lv_iload_n hx hb dX4_roadRead_127 rfl (lv_at hl 0 rfl) ?_
    obtain ⟨σ_8, eσ_8, hf⟩ := ob hf
    refine tw_ast X I 5 (by decide) (by decide) (by decide) eσ_8 dX4_roadRead_128 (fun H locs I => ?_)
    refine lv_aload_n hx hb dX4_roadRead_129 rfl (lv_at hl 2 rfl) ?_
    refine lv_dup hx hb dX4_roadRead_130 rfl ?_
    refine tw_get X I 8 (v := .int (σ_8.1 0 8)) (by decide) q2695 rfl dX4_roadRead_131 ?_
    refine lv_iconst (v := 1) hx hb dX4_roadRead_134 (by decide) ?_
    refine lv_iadd hx hb dX4_roadRead_135 ?_
    obtain ⟨σ_9, eσ_9, hf⟩ := ol hf
    refine tw_put X I 8 (ty := .int) (by decide) (by decide) rfl q2695 rfl rfl rfl rfl eσ_9 dX4_roadRead_136 (fun H locs I => ?_)
    cases os hf
    exact r_vret X I dX4_roadRead_139
  · have hf := ip c_101 hf
    cases os hf
    exact r_vret X I dX4_roadRead_104
theorem wX4_roadRead_71 {E : EV} {l : Launch} {p : Program} {e : Env} {s : State} {m : MethodId} {args : Array Value} {below : List Frame} {meth : Method} {c : Code} {R : Room} {h : Nat} {S : St} {res : TS} (hR : 4 ≤ R.frames ∧ 84 ≤ R.locals) (X : MX E p s m args meth c cX4_roadRead 4 none RX4 "roadRead") (N : Nat) : ∀ (x1 : Int32) (σ : TS) (H : Heap) (locs : List Loc) (cells slots : Nat) (ls : Array Slot), WI E R s (twS h σ S) H locs cells slots → lv_has ls 4 [(0, .ref h), (1, .int x1)] → fX4_roadRead_71 N x1 σ = some res → W p l e R s m args below meth c H locs cells slots (MQ below (Qd E R.cells R.slots none (twS h res S)) args s R.cells R.slots (fr E)) (F0 m 71 ls []) := by
  intro x1 σ H locs cells slots ls I hl hf
  obtain ⟨⟨hx, hb, hml, hown, hts⟩, -⟩ := id X
  unfold fX4_roadRead_71 at hf
  refine lv_aload_n hx hb dX4_roadRead_71 rfl (lv_at hl 0 rfl) ?_
  refine lv_iconst (v := 4) hx hb dX4_roadRead_72 (by decide) ?_
  obtain ⟨v_10, ev_10, hf⟩ := ob hf
  refine tw_V (some (.int v_10.1)) (rs := [.int v_10.1]) (rest := []) (As := [.int (4 : Int32)]) X I (mX4_wrongs X.2.2.2.2.1 ev_10) lvX4_wrongs hdX4_wrongs ⟨Nat.le_trans (Nat.le_of_ble_eq_true rfl) hR.1, Nat.le_trans (Nat.le_of_ble_eq_true rfl) hR.2⟩ rfl hl.1 rfl (Nat.le_of_ble_eq_true rfl) rfl dX4_roadRead_73 (fun H locs cells slots I => ?_)
  refine lv_pop hx hb dX4_roadRead_76 rfl ?_
  exact wX4_roadRead_77 hR X N _ _ _ _ _ _ _ I (lv_sub hl [0, 1] rfl) hf
theorem wX4_roadRead_0 {E : EV} {l : Launch} {p : Program} {e : Env} {s : State} {m : MethodId} {args : Array Value} {below : List Frame} {meth : Method} {c : Code} {R : Room} {h : Nat} {S : St} {res : TS} (hR : 4 ≤ R.frames ∧ 84 ≤ R.locals) (X : MX E p s m args meth c cX4_roadRead 4 none RX4 "roadRead") (N : Nat) : ∀ (σ : TS) (H : Heap) (locs : List Loc) (cells slots : Nat) (ls : Array Slot), WI E R s (twS h σ S) H locs cells slots → lv_has ls 4 [(0, .ref h)] → fX4_roadRead N σ = some res → W p l e R s m args below meth c H locs cells slots (MQ below (Qd E R.cells R.slots none (twS h res S)) args s R.cells R.slots (fr E)) (F0 m 0 ls []) := by
  intro σ H locs cells slots ls I hl hf
  obtain ⟨⟨hx, hb, hml, hown, hts⟩, -⟩ := id X
  unfold fX4_roadRead at hf
  refine lv_aload_n hx hb dX4_roadRead_0 rfl (lv_at hl 0 rfl) ?_
  refine lv_iconst (v := 0) hx hb dX4_roadRead_1 (by decide) ?_
  refine lv_aload_n hx hb dX4_roadRead_2 rfl (lv_at hl 0 rfl) ?_
  refine tw_get X I 7 (v := .int (σ.1 0 7)) (by decide) q2694 rfl dX4_roadRead_3 ?_
  refine lv_iconst (v := 1) hx hb dX4_roadRead_6 (by decide) ?_
  refine lv_isub hx hb dX4_roadRead_7 ?_
  obtain ⟨v_12, ev_12, hf⟩ := ob hf
  refine tw_V (some (.int v_12.1)) (rs := [.int v_12.1]) (rest := []) (As := [.int (0 : Int32), .int ((σ.1 0 7) - (1 : Int32))]) X I (mX4_number X.2.2.2.2.1 ev_12) lvX4_number hdX4_number ⟨Nat.le_trans (Nat.le_of_ble_eq_true rfl) hR.1, Nat.le_trans (Nat.le_of_ble_eq_true rfl) hR.2⟩ rfl hl.1 rfl (Nat.le_of_ble_eq_true rfl) rfl dX4_roadRead_8 (fun H locs cells slots I => ?_)
  refine lv_istore_n (lv' := [(1, .int v_12.1), (0, .ref h)]) hx hb dX4_roadRead_11 rfl hl (by decide) rfl (fun ls hl => ?_)
  refine lv_aload_n hx hb dX4_roadRead_12 rfl (lv_at hl 1 rfl) ?_
  obtain ⟨v_14, ev_14, hf⟩ := ob hf
  refine tw_V (some (.int v_14)) (rs := [.int v_14]) (rest := []) (As := []) X I (mX4_isGood X.2.2.2.2.1 ev_14) lvX4_isGood hdX4_isGood ⟨Nat.le_trans (Nat.le_of_ble_eq_true rfl) hR.1, Nat.le_trans (Nat.le_of_ble_eq_true rfl) hR.2⟩ rfl hl.1 rfl (Nat.le_of_ble_eq_true rfl) rfl dX4_roadRead_13 (fun H locs cells slots I => ?_)
  refine lv_if_eq (tgt := 77) hx hb dX4_roadRead_16 (by decide) (fun c_16 => ?_) (fun c_16 => ?_)
  · have hf := ip c_16 hf
    exact wX4_roadRead_77 hR X N _ _ _ _ _ _ _ I (lv_sub hl [1, 0] rfl) hf
  · have hf := im c_16 hf
    refine lv_aload_n hx hb dX4_roadRead_19 rfl (lv_at hl 1 rfl) ?_
    refine tw_get X I 27 (v := .int (v_12.2.1 0 27)) (by decide) q2714 rfl dX4_roadRead_20 ?_
    refine lv_iconst (v := 2) hx hb dX4_roadRead_23 (by decide) ?_
    refine lv_icmp_ne (tgt := 77) hx hb dX4_roadRead_24 (by decide) (fun c_24 => ?_) (fun c_24 => ?_)
    · have hf := im c_24 hf
      exact wX4_roadRead_77 hR X N _ _ _ _ _ _ _ I (lv_sub hl [1, 0] rfl) hf
    · have hf := ip c_24 hf
      refine lv_aload_n hx hb dX4_roadRead_27 rfl (lv_at hl 1 rfl) ?_
      refine tw_get X I 28 (v := .int (v_12.2.1 0 28)) (by decide) q2715 rfl dX4_roadRead_28 ?_
      refine lv_i2l hx hb dX4_roadRead_31 rfl ?_
      refine lv_lconst (v := 0) hx hb dX4_roadRead_32 (by decide) ?_
      refine lv_aload_n hx hb dX4_roadRead_33 rfl (lv_at hl 1 rfl) ?_
      refine tw_get X I 7 (v := .int (v_12.2.1 0 7)) (by decide) q2694 rfl dX4_roadRead_34 ?_
      refine lv_iconst (v := 1) hx hb dX4_roadRead_37 (by decide) ?_
      refine lv_isub hx hb dX4_roadRead_38 ?_
      refine lv_i2l hx hb dX4_roadRead_39 rfl ?_
      obtain ⟨v_16, ev_16, hf⟩ := ob hf
      refine tw_S (some (.int v_16)) (rs := [.int v_16]) (rest := []) (As := [.long ((v_12.2.1 0 28).toInt64), .long (0 : Int64), .long (((v_12.2.1 0 7) - (1 : Int32)).toInt64)]) X I (mX4_in X.2.2.2.2.1 ev_16) lvX4_in hdX4_in ⟨Nat.le_trans (Nat.le_of_ble_eq_true rfl) hR.1, Nat.le_trans (Nat.le_of_ble_eq_true rfl) hR.2⟩ rfl hl.1 rfl (Nat.le_of_ble_eq_true rfl) rfl dX4_roadRead_40 (fun H locs cells slots I => ?_)
      refine lv_if_eq (tgt := 77) hx hb dX4_roadRead_43 (by decide) (fun c_43 => ?_) (fun c_43 => ?_)
      · have hf := ip c_43 hf
        exact wX4_roadRead_77 hR X N _ _ _ _ _ _ _ I (lv_sub hl [1, 0] rfl) hf
      · have hf := im c_43 hf
        refine lv_aload_n hx hb dX4_roadRead_46 rfl (lv_at hl 1 rfl) ?_
        refine tw_get X I 28 (v := .int (v_12.2.1 0 28)) (by decide) q2715 rfl dX4_roadRead_47 ?_
        refine lv_iload_n hx hb dX4_roadRead_50 rfl (lv_at hl 0 rfl) ?_
        refine lv_icmp_eq (tgt := 71) hx hb dX4_roadRead_51 (by decide) (fun c_51 => ?_) (fun c_51 => ?_)
        · have hf := ip c_51 hf
          exact wX4_roadRead_71 hR X N _ _ _ _ _ _ _ I (lv_sub hl [1, 0] rfl) hf
        · have hf := im c_51 hf
          refine lv_aload_n hx hb dX4_roadRead_54 rfl (lv_at hl 1 rfl) ?_
          refine tw_get X I 11 (v := .ref (h + 5)) (by decide) q2698 rfl dX4_roadRead_55 ?_
          refine lv_bipush (v := 8) hx hb dX4_roadRead_58 (by decide) ?_
          refine lv_iload_n hx hb dX4_roadRead_60 rfl (lv_at hl 0 rfl) ?_
          refine lv_imul hx hb dX4_roadRead_61 ?_
          refine lv_aload_n hx hb dX4_roadRead_62 rfl (lv_at hl 1 rfl) ?_
          refine tw_get X I 28 (v := .int (v_12.2.1 0 28)) (by decide) q2715 rfl dX4_roadRead_63 ?_
          refine lv_iadd hx hb dX4_roadRead_66 ?_
          obtain ⟨v_18, ev_18, hf⟩ := ob hf
          refine tw_ald X I 5 (by decide) (by decide) (by decide) ev_18 dX4_roadRead_67 ?_
          refine lv_if_lt (tgt := 77) hx hb dX4_roadRead_68 (by decide) (fun c_68 => ?_) (fun c_68 => ?_)
          · have hf := ip c_68 hf
            exact wX4_roadRead_77 hR X N _ _ _ _ _ _ _ I (lv_sub hl [1, 0] rfl) hf
          · have hf := im c_68 hf
            exact wX4_roadRead_71 hR X N _ _ _ _ _ _ _ I (lv_sub hl [1, 0] rfl) hf
theorem mX4_roadRead {E : EV} {l : Launch} {h : Nat} {S : St} {N : Nat} {σ : TS} {res : TS} (hE : EK E) (hf : fX4_roadRead N σ = some res) : CM E l yX4_roadRead (ws_ yX4_roadRead cX4_roadRead 4 none) 4 84 [.ref h] (twS h σ S) none (twS h res S) := by
  refine CM.of hE (by decide) rfl rfl (Nat.le_of_ble_eq_true rfl) ?_
  intro p e s m below meth c X I ls hl
  exact wX4_roadRead_0 ⟨Nat.le_refl _, Nat.le_refl _⟩ X N _ _ _ _ _ _ I hl hf
