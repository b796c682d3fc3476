set_option maxRecDepth 100000
/-! partOf(III)I -/
theorem lvX4_partOf : GoodIn lw_all (va_wsS RX4 342 yX4_partOf (ws_ yX4_partOf cX4_partOf 3 (some .int))) := lw_S q3110 q3111 q120 q3112
theorem hdX4_partOf : yX4_partOf.cls ≠ "java/lang/invoke/MethodHandle" ∧ yX4_partOf.cls ≠ "java/lang/invoke/VarHandle" ∧ (parseMethodDescriptor yX4_partOf.desc).map (fun d => d.parameters.length) = some 3 := by decide +kernel
theorem wX4_partOf_0 {E : EV} {l : Launch} {p : Program} {e : Env} {s : State} {m : MethodId} {args : Array Value} {below : List Frame} {meth : Method} {c : Code} {R : Room} {σ : St} {res : Int32} (hR : 0 ≤ R.frames ∧ 0 ≤ R.locals) (X : MX E p s m args meth c cX4_partOf 3 (some .int) RX4 "partOf") : ∀ (x0 : Int32) (x1 : Int32) (x2 : Int32) (H : Heap) (locs : List Loc) (cells slots : Nat) (ls : Array Slot), WI E R s σ H locs cells slots → lv_has ls 3 [(0, .int x0), (1, .int x1), (2, .int x2)] → fX4_partOf x0 x1 x2 = some res → W p l e R s m args below meth c H locs cells slots (MQ below (Qd E R.cells R.slots (some (.int res)) σ) args s R.cells R.slots (fr E)) (F0 m 0 ls []) := by
  intro x0 x1 x2 H locs cells slots ls I hl hf
  obtain ⟨⟨hx, hb, hml, hown, hts⟩, -⟩ := id X
  unfold fX4_partOf at hf
  refine lv_iload_n hx hb dX4_partOf_0 rfl (lv_at hl 0 rfl) ?_
  refine lv_iload_n hx hb dX4_partOf_1 rfl (lv_at hl 1 rfl) ?_
  by_cases c_2 : x1 = 0
  · rw [if_pos c_2] at hf; cases hf
  have hf := im c_2 hf
  refine lv_idiv hx hb dX4_partOf_2 c_2 ?_
  refine lv_iload_n hx hb dX4_partOf_3 rfl (lv_at hl 2 rfl) ?_
  refine lv_iload_n hx hb dX4_partOf_4 rfl (lv_at hl 0 rfl) ?_
  refine lv_iload_n hx hb dX4_partOf_5 rfl (lv_at hl 1 rfl) ?_
  by_cases c_6 : x1 = 0
  · rw [if_pos c_6] at hf; cases hf
  have hf := im c_6 hf
  refine lv_irem hx hb dX4_partOf_6 c_6 ?_
  refine lv_icmp_ge (tgt := 14) hx hb dX4_partOf_7 (by decide) (fun c_7 => ?_) (fun c_7 => ?_)
  · have hf := ip c_7 hf
    refine lv_iconst (v := 0) hx hb dX4_partOf_14 (by decide) ?_
    refine lv_iadd hx hb dX4_partOf_15 ?_
    cases os hf
    exact r_iret X I dX4_partOf_16
  · have hf := im c_7 hf
    refine lv_iconst (v := 1) hx hb dX4_partOf_10 (by decide) ?_
    refine lv_goto (tgt := 15) hx hb dX4_partOf_11 (by decide) ?_
    refine lv_iadd hx hb dX4_partOf_15 ?_
    cases os hf
    exact r_iret X I dX4_partOf_16
theorem mX4_partOf {E : EV} {l : Launch} {σ : St} {x0 : Int32} {x1 : Int32} {x2 : Int32} {res : Int32} (hE : EK E) (hf : fX4_partOf x0 x1 x2 = some res) : CM E l yX4_partOf (ws_ yX4_partOf cX4_partOf 3 (some .int)) 0 0 [.int x0, .int x1, .int x2] σ (some (.int res)) σ := by
  refine CM.of hE (by decide) rfl rfl (Nat.le_of_ble_eq_true rfl) ?_
  intro p e s m below meth c X I ls hl
  exact wX4_partOf_0 ⟨Nat.le_refl _, Nat.le_refl _⟩ X _ _ _ _ _ _ _ _ I hl hf
/-! willPay(II)I -/
theorem lvX4_willPay : GoodIn lw_all (wsV RX4 393 RX4 yX4_willPay (ws_ yX4_willPay cX4_willPay 11 (some .int))) := lw_V q3095 q3097 qs84 q120 q3098
theorem hdX4_willPay : yX4_willPay.cls = RX4 ∧ yX4_willPay.cls ≠ "java/lang/invoke/MethodHandle" ∧ yX4_willPay.cls ≠ "java/lang/invoke/VarHandle" ∧ (parseMethodDescriptor yX4_willPay.desc).map (fun d => d.parameters.length) = some 2 := by decide +kernel
theorem wX4_willPay_250 {E : EV} {l : Launch} {p : Program} {e : Env} {s : State} {m : MethodId} {args : Array Value} {below : List Frame} {meth : Method} {c : Code} {R : Room} {h : Nat} {S : St} {res : (Int32 × TS)} (hR : 3 ≤ R.frames ∧ 65 ≤ R.locals) (X : MX E p s m args meth c cX4_willPay 11 (some .int) RX4 "willPay") (N : Nat) (r47 : Int32 → Int32 → Int32 → Int32 → TS → Option (Int32 × TS)) (hr47 : ∀ (x2 : Int32) (x3 : Int32) (x4 : Int32) (x5 : Int32) (σ : TS) (H : Heap) (locs : List Loc) (cells slots : Nat) (ls : Array Slot), WI E R s (twS h σ S) H locs cells slots → lv_has ls 11 [(0, .ref h), (2, .int x2), (3, .int x3), (4, .int x4), (5, .int x5)] → r47 x2 x3 x4 x5 σ = some res → W p l e R s m args below meth c H locs cells slots (MQ below (Qd E R.cells R.slots (some (.int res.1)) (twS h res.2 S)) args s R.cells R.slots (fr E)) (F0 m 47 ls [])) : ∀ (x2 : Int32) (x3 : Int32) (x4 : Int32) (x5 : Int32) (σ : TS) (H : Heap) (locs : List Loc) (cells slots : Nat) (ls : Array Slot), WI E R s (twS h σ S) H locs cells slots → lv_has ls 11 [(0, .ref h), (2, .int x2), (3, .int x3), (4, .int x4), (5, .int x5)] → fX4_willPay_250 N r47 x2 x3 x4 x5 σ = some res → W p l e R s m args below meth c H locs cells slots (MQ below (Qd E R.cells R.slots (some (.int res.1)) (twS h res.2 S)) args s R.cells R.slots (fr E)) (F0 m 250 ls []) := by
  intro x2 x3 x4 x5 σ H locs cells slots ls I hl hf
  obtain ⟨⟨hx, hb, hml, hown, hts⟩, -⟩ := id X
  unfold fX4_willPay_250 at hf
  obtain ⟨x5_1, ex5_1, hf⟩ := ol hf
  refine lv_iinc (v := x5_1) (lv' := [(5, .int x5_1), (0, .ref h), (2, .int x2), (3, .int x3), (4, .int x4)]) hx hb dX4_willPay_250 hl (k := 4) rfl ex5_1 (by decide) rfl (fun ls hl => ?_)
  refine lv_goto (tgt := 47) hx hb dX4_willPay_253 (by decide) ?_
  exact hr47 _ _ _ _ _ _ _ _ _ _ I (lv_sub hl [1, 2, 3, 4, 0] rfl) hf
theorem wX4_willPay_248 {E : EV} {l : Launch} {p : Program} {e : Env} {s : State} {m : MethodId} {args : Array Value} {below : List Frame} {meth : Method} {c : Code} {R : Room} {h : Nat} {S : St} {res : (Int32 × TS)} (hR : 3 ≤ R.frames ∧ 65 ≤ R.locals) (X : MX E p s m args meth c cX4_willPay 11 (some .int) RX4 "willPay") (N : Nat) (r47 : Int32 → Int32 → Int32 → Int32 → TS → Option (Int32 × TS)) (hr47 : ∀ (x2 : Int32) (x3 : Int32) (x4 : Int32) (x5 : Int32) (σ : TS) (H : Heap) (locs : List Loc) (cells slots : Nat) (ls : Array Slot), WI E R s (twS h σ S) H locs cells slots → lv_has ls 11 [(0, .ref h), (2, .int x2), (3, .int x3), (4, .int x4), (5, .int x5)] → r47 x2 x3 x4 x5 σ = some res → W p l e R s m args below meth c H locs cells slots (MQ below (Qd E R.cells R.slots (some (.int res.1)) (twS h res.2 S)) args s R.cells R.slots (fr E)) (F0 m 47 ls [])) : ∀ (x2 : Int32) (x4 : Int32) (x5 : Int32) (y0 : Int32) (y1 : Int32) (σ : TS) (H : Heap) (locs : List Loc) (cells slots : Nat) (ls : Array Slot), WI E R s (twS h σ S) H locs cells slots → lv_has ls 11 [(0, .ref h), (2, .int x2), (4, .int x4), (5, .int x5)] → fX4_willPay_248 N r47 x2 x4 x5 y0 y1 σ = some res → W p l e R s m args below meth c H locs cells slots (MQ below (Qd E R.cells R.slots (some (.int res.1)) (twS h res.2 S)) args s R.cells R.slots (fr E)) (F0 m 248 ls [.int y1, .int y0]) := by
  intro x2 x4 x5 y0 y1 σ H locs cells slots ls I hl hf
  obtain ⟨⟨hx, hb, hml, hown, hts⟩, -⟩ := id X
  unfold fX4_willPay_248 at hf
  refine lv_iadd hx hb dX4_willPay_248 ?_
  obtain ⟨x3_2, ex3_2, hf⟩ := ol hf
  refine nm_i ex3_2 ?_
  refine lv_istore_n (lv' := [(3, .int x3_2), (0, .ref h), (2, .int x2), (4, .int x4), (5, .int x5)]) hx hb dX4_willPay_249 rfl hl (by decide) rfl (fun ls hl => ?_)
  exact wX4_willPay_250 hR X N r47 hr47 _ _ _ _ _ _ _ _ _ _ I (lv_sub hl [1, 2, 0, 3, 4] rfl) hf
theorem wX4_willPay_181 {E : EV} {l : Launch} {p : Program} {e : Env} {s : State} {m : MethodId} {args : Array Value} {below : List Frame} {meth : Method} {c : Code} {R : Room} {h : Nat} {S : St} {res : (Int32 × TS)} (hR : 3 ≤ R.frames ∧ 65 ≤ R.locals) (X : MX E p s m args meth c cX4_willPay 11 (some .int) RX4 "willPay") (N : Nat) (r47 : Int32 → Int32 → Int32 → Int32 → TS → Option (Int32 × TS)) (hr47 : ∀ (x2 : Int32) (x3 : Int32) (x4 : Int32) (x5 : Int32) (σ : TS) (H : Heap) (locs : List Loc) (cells slots : Nat) (ls : Array Slot), WI E R s (twS h σ S) H locs cells slots → lv_has ls 11 [(0, .ref h), (2, .int x2), (3, .int x3), (4, .int x4), (5, .int x5)] → r47 x2 x3 x4 x5 σ = some res → W p l e R s m args below meth c H locs cells slots (MQ below (Qd E R.cells R.slots (some (.int res.1)) (twS h res.2 S)) args s R.cells R.slots (fr E)) (F0 m 47 ls [])) (r88 : Int32 → Int32 → Int32 → Int32 → Int32 → Int32 → Int32 → Int32 → TS → Option (Int32 × TS)) (hr88 : ∀ (x2 : Int32) (x3 : Int32) (x4 : Int32) (x5 : Int32) (x6 : Int32) (x7 : Int32) (x8 : Int32) (x9 : Int32) (σ : TS) (H : Heap) (locs : List Loc) (cells slots : Nat) (ls : Array Slot), WI E R s (twS h σ S) H locs cells slots → lv_has ls 11 [(0, .ref h), (2, .int x2), (3, .int x3), (4, .int x4), (5, .int x5), (6, .int x6), (7, .int x7), (8, .int x8), (9, .int x9)] → r88 x2 x3 x4 x5 x6 x7 x8 x9 σ = some res → W p l e R s m args below meth c H locs cells slots (MQ below (Qd E R.cells R.slots (some (.int res.1)) (twS h res.2 S)) args s R.cells R.slots (fr E)) (F0 m 88 ls [])) : ∀ (x2 : Int32) (x3 : Int32) (x4 : Int32) (x5 : Int32) (x6 : Int32) (x7 : Int32) (x9 : Int32) (y0 : Int32) (y1 : Int32) (σ : TS) (H : Heap) (locs : List Loc) (cells slots : Nat) (ls : Array Slot), WI E R s (twS h σ S) H locs cells slots → lv_has ls 11 [(0, .ref h), (2, .int x2), (3, .int x3), (4, .int x4), (5, .int x5), (6, .int x6), (7, .int x7), (9, .int x9)] → fX4_willPay_181 N r47 r88 x2 x3 x4 x5 x6 x7 x9 y0 y1 σ = some res → W p l e R s m args below meth c H locs cells slots (MQ below (Qd E R.cells R.slots (some (.int res.1)) (twS h res.2 S)) args s R.cells R.slots (fr E)) (F0 m 181 ls [.int y1, .int y0]) := by
  intro x2 x3 x4 x5 x6 x7 x9 y0 y1 σ H locs cells slots ls I hl hf
  obtain ⟨⟨hx, hb, hml, hown, hts⟩, -⟩ := id X
  unfold fX4_willPay_181 at hf
  refine lv_iadd hx hb dX4_willPay_181 ?_
  obtain ⟨x8_3, ex8_3, hf⟩ := ol hf
  refine nm_i ex8_3 ?_
  refine lv_istore (lv' := [(8, .int x8_3), (0, .ref h), (2, .int x2), (3, .int x3), (4, .int x4), (5, .int x5), (6, .int x6), (7, .int x7), (9, .int x9)]) hx hb dX4_willPay_182 hl (by decide) rfl (fun ls hl => ?_)
  obtain ⟨x9_4, ex9_4, hf⟩ := ol hf
  refine lv_iinc (v := x9_4) (lv' := [(9, .int x9_4), (8, .int x8_3), (0, .ref h), (2, .int x2), (3, .int x3), (4, .int x4), (5, .int x5), (6, .int x6), (7, .int x7)]) hx hb dX4_willPay_184 hl (k := 8) rfl ex9_4 (by decide) rfl (fun ls hl => ?_)
  refine lv_goto (tgt := 88) hx hb dX4_willPay_187 (by decide) ?_
  exact hr88 _ _ _ _ _ _ _ _ _ _ _ _ _ _ I (lv_sub hl [2, 3, 4, 5, 6, 7, 8, 1, 0] rfl) hf
theorem wX4_willPay_169 {E : EV} {l : Launch} {p : Program} {e : Env} {s : State} {m : MethodId} {args : Array Value} {below : List Frame} {meth : Method} {c : Code} {R : Room} {h : Nat} {S : St} {res : (Int32 × TS)} (hR : 3 ≤ R.frames ∧ 65 ≤ R.locals) (X : MX E p s m args meth c cX4_willPay 11 (some .int) RX4 "willPay") (N : Nat) (r47 : Int32 → Int32 → Int32 → Int32 → TS → Option (Int32 × TS)) (hr47 : ∀ (x2 : Int32) (x3 : Int32) (x4 : Int32) (x5 : Int32) (σ : TS) (H : Heap) (locs : List Loc) (cells slots : Nat) (ls : Array Slot), WI E R s (twS h σ S) H locs cells slots → lv_has ls 11 [(0, .ref h), (2, .int x2), (3, .int x3), (4, .int x4), (5, .int x5)] → r47 x2 x3 x4 x5 σ = some res → W p l e R s m args below meth c H locs cells slots (MQ below (Qd E R.cells R.slots (some (.int res.1)) (twS h res.2 S)) args s R.cells R.slots (fr E)) (F0 m 47 ls [])) (r88 : Int32 → Int32 → Int32 → Int32 → Int32 → Int32 → Int32 → Int32 → TS → Option (Int32 × TS)) (hr88 : ∀ (x2 : Int32) (x3 : Int32) (x4 : Int32) (x5 : Int32) (x6 : Int32) (x7 : Int32) (x8 : Int32) (x9 : Int32) (σ : TS) (H : Heap) (locs : List Loc) (cells slots : Nat) (ls : Array Slot), WI E R s (twS h σ S) H locs cells slots → lv_has ls 11 [(0, .ref h), (2, .int x2), (3, .int x3), (4, .int x4), (5, .int x5), (6, .int x6), (7, .int x7), (8, .int x8), (9, .int x9)] → r88 x2 x3 x4 x5 x6 x7 x8 x9 σ = some res → W p l e R s m args below meth c H locs cells slots (MQ below (Qd E R.cells R.slots (some (.int res.1)) (twS h res.2 S)) args s R.cells R.slots (fr E)) (F0 m 88 ls [])) : ∀ (x2 : Int32) (x3 : Int32) (x4 : Int32) (x5 : Int32) (x6 : Int32) (x7 : Int32) (x8 : Int32) (x9 : Int32) (x10 : Int32) (σ : TS) (H : Heap) (locs : List Loc) (cells slots : Nat) (ls : Array Slot), WI E R s (twS h σ S) H locs cells slots → lv_has ls 11 [(0, .ref h), (2, .int x2), (3, .int x3), (4, .int x4), (5, .int x5), (6, .int x6), (7, .int x7), (8, .int x8), (9, .int x9), (10, .int x10)] → fX4_willPay_169 N r47 r88 x2 x3 x4 x5 x6 x7 x8 x9 x10 σ = some res → W p l e R s m args below meth c H locs cells slots (MQ below (Qd E R.cells R.slots (some (.int res.1)) (twS h res.2 S)) args s R.cells R.slots (fr E)) (F0 m 169 ls []) := by
  intro x2 x3 x4 x5 x6 x7 x8 x9 x10 σ H locs cells slots ls I hl hf
  obtain ⟨⟨hx, hb, hml, hown, hts⟩, -⟩ := id X
  unfold fX4_willPay_169 at hf
  refine lv_iload hx hb dX4_willPay_169 (lv_at hl 7 rfl) ?_
  refine lv_iload hx hb dX4_willPay_171 (lv_at hl 9 rfl) ?_
  refine lv_if_eq (tgt := 180) hx hb dX4_willPay_173 (by decide) (fun c_173 => ?_) (fun c_173 => ?_)
  · have hf := ip c_173 hf
    refine lv_iconst (v := 0) hx hb dX4_willPay_180 (by decide) ?_
    exact wX4_willPay_181 hR X N r47 hr47 r88 hr88 _ _ _ _ _ _ _ _ _ _ _ _ _ _ _ I (lv_sub hl [0, 1, 2, 3, 4, 5, 6, 8] rfl) hf
  · have hf := im c_173 hf
    refine lv_iconst (v := 1) hx hb dX4_willPay_176 (by decide) ?_
    refine lv_goto (tgt := 181) hx hb dX4_willPay_177 (by decide) ?_
    exact wX4_willPay_181 hR X N r47 hr47 r88 hr88 _ _ _ _ _ _ _ _ _ _ _ _ _ _ _ I (lv_sub hl [0, 1, 2, 3, 4, 5, 6, 8] rfl) hf
theorem wX4_willPay_148 {E : EV} {l : Launch} {p : Program} {e : Env} {s : State} {m : MethodId} {args : Array Value} {below : List Frame} {meth : Method} {c : Code} {R : Room} {h : Nat} {S : St} {res : (Int32 × TS)} (hR : 3 ≤ R.frames ∧ 65 ≤ R.locals) (X : MX E p s m args meth c cX4_willPay 11 (some .int) RX4 "willPay") (N : Nat) (r47 : Int32 → Int32 → Int32 → Int32 → TS → Option (Int32 × TS)) (hr47 : ∀ (x2 : Int32) (x3 : Int32) (x4 : Int32) (x5 : Int32) (σ : TS) (H : Heap) (locs : List Loc) (cells slots : Nat) (ls : Array Slot), WI E R s (twS h σ S) H locs cells slots → lv_has ls 11 [(0, .ref h), (2, .int x2), (3, .int x3), (4, .int x4), (5, .int x5)] → r47 x2 x3 x4 x5 σ = some res → W p l e R s m args below meth c H locs cells slots (MQ below (Qd E R.cells R.slots (some (.int res.1)) (twS h res.2 S)) args s R.cells R.slots (fr E)) (F0 m 47 ls [])) (r88 : Int32 → Int32 → Int32 → Int32 → Int32 → Int32 → Int32 → Int32 → TS → Option (Int32 × TS)) (hr88 : ∀ (x2 : Int32) (x3 : Int32) (x4 : Int32) (x5 : Int32) (x6 : Int32) (x7 : Int32) (x8 : Int32) (x9 : Int32) (σ : TS) (H : Heap) (locs : List Loc) (cells slots : Nat) (ls : Array Slot), WI E R s (twS h σ S) H locs cells slots → lv_has ls 11 [(0, .ref h), (2, .int x2), (3, .int x3), (4, .int x4), (5, .int x5), (6, .int x6), (7, .int x7), (8, .int x8), (9, .int x9)] → r88 x2 x3 x4 x5 x6 x7 x8 x9 σ = some res → W p l e R s m args below meth c H locs cells slots (MQ below (Qd E R.cells R.slots (some (.int res.1)) (twS h res.2 S)) args s R.cells R.slots (fr E)) (F0 m 88 ls [])) : ∀ (x2 : Int32) (x3 : Int32) (x4 : Int32) (x5 : Int32) (x6 : Int32) (x7 : Int32) (x8 : Int32) (x9 : Int32) (y0 : Int32) (σ : TS) (H : Heap) (locs : List Loc) (cells slots : Nat) (ls : Array Slot), WI E R s (twS h σ S) H locs cells slots → lv_has ls 11 [(0, .ref h), (2, .int x2), (3, .int x3), (4, .int x4), (5, .int x5), (6, .int x6), (7, .int x7), (8, .int x8), (9, .int x9)] → fX4_willPay_148 N r47 r88 x2 x3 x4 x5 x6 x7 x8 x9 y0 σ = some res → W p l e R s m args below meth c H locs cells slots (MQ below (Qd E R.cells R.slots (some (.int res.1)) (twS h res.2 S)) args s R.cells R.slots (fr E)) (F0 m 148 ls [.int y0]) := by
  intro x2 x3 x4 x5 x6 x7 x8 x9 y0 σ H locs cells slots ls I hl hf
  obtain ⟨⟨hx, hb, hml, hown, hts⟩, -⟩ := id X
  unfold fX4_willPay_148 at hf
  refine lv_istore (lv' := [(10, .int y0), (0, .ref h), (2, .int x2), (3, .int x3), (4, .int x4), (5, .int x5), (6, .int x6), (7, .int x7), (8, .int x8), (9, .int x9)]) hx hb dX4_willPay_148 hl (by decide) rfl (fun ls hl => ?_)
  refine lv_iload hx hb dX4_willPay_150 (lv_at hl 0 rfl) ?_
  refine lv_if_eq (tgt := 169) hx hb dX4_willPay_152 (by decide) (fun c_152 => ?_) (fun c_152 => ?_)
  · have hf := ip c_152 hf
    exact wX4_willPay_169 hR X N r47 hr47 r88 hr88 _ _ _ _ _ _ _ _ _ _ _ _ _ _ _ I (lv_sub hl [1, 2, 3, 4, 5, 6, 7, 8, 9, 0] rfl) hf
  · have hf := im c_152 hf
    refine lv_aload_n hx hb dX4_willPay_155 rfl (lv_at hl 1 rfl) ?_
    refine tw_get X I 45 (v := .ref (h + 20)) (by decide) q2732 rfl dX4_willPay_156 ?_
    refine lv_iload hx hb dX4_willPay_159 (lv_at hl 8 rfl) ?_
    refine lv_aload_n hx hb dX4_willPay_161 rfl (lv_at hl 1 rfl) ?_
    refine tw_get X I 45 (v := .ref (h + 20)) (by decide) q2732 rfl dX4_willPay_162 ?_
    refine lv_iload hx hb dX4_willPay_165 (lv_at hl 9 rfl) ?_
    obtain ⟨v_5, ev_5, hf⟩ := ob hf
    refine tw_ald X I 20 (by decide) (by decide) (by decide) ev_5 dX4_willPay_167 ?_
    obtain ⟨σ_6, eσ_6, hf⟩ := ob hf
    refine tw_ast X I 20 (by decide) (by decide) (by decide) eσ_6 dX4_willPay_168 (fun H locs I => ?_)
    exact wX4_willPay_169 hR X N r47 hr47 r88 hr88 _ _ _ _ _ _ _ _ _ _ _ _ _ _ _ I (lv_sub hl [1, 2, 3, 4, 5, 6, 7, 8, 9, 0] rfl) hf
theorem wX4_willPay_143 {E : EV} {l : Launch} {p : Program} {e : Env} {s : State} {m : MethodId} {args : Array Value} {below : List Frame} {meth : Method} {c : Code} {R : Room} {h : Nat} {S : St} {res : (Int32 × TS)} (hR : 3 ≤ R.frames ∧ 65 ≤ R.locals) (X : MX E p s m args meth c cX4_willPay 11 (some .int) RX4 "willPay") (N : Nat) (r47 : Int32 → Int32 → Int32 → Int32 → TS → Option (Int32 × TS)) (hr47 : ∀ (x2 : Int32) (x3 : Int32) (x4 : Int32) (x5 : Int32) (σ : TS) (H : Heap) (locs : List Loc) (cells slots : Nat) (ls : Array Slot), WI E R s (twS h σ S) H locs cells slots → lv_has ls 11 [(0, .ref h), (2, .int x2), (3, .int x3), (4, .int x4), (5, .int x5)] → r47 x2 x3 x4 x5 σ = some res → W p l e R s m args below meth c H locs cells slots (MQ below (Qd E R.cells R.slots (some (.int res.1)) (twS h res.2 S)) args s R.cells R.slots (fr E)) (F0 m 47 ls [])) (r88 : Int32 → Int32 → Int32 → Int32 → Int32 → Int32 → Int32 → Int32 → TS → Option (Int32 × TS)) (hr88 : ∀ (x2 : Int32) (x3 : Int32) (x4 : Int32) (x5 : Int32) (x6 : Int32) (x7 : Int32) (x8 : Int32) (x9 : Int32) (σ : TS) (H : Heap) (locs : List Loc) (cells slots : Nat) (ls : Array Slot), WI E R s (twS h σ S) H locs cells slots → lv_has ls 11 [(0, .ref h), (2, .int x2), (3, .int x3), (4, .int x4), (5, .int x5), (6, .int x6), (7, .int x7), (8, .int x8), (9, .int x9)] → r88 x2 x3 x4 x5 x6 x7 x8 x9 σ = some res → W p l e R s m args below meth c H locs cells slots (MQ below (Qd E R.cells R.slots (some (.int res.1)) (twS h res.2 S)) args s R.cells R.slots (fr E)) (F0 m 88 ls [])) : ∀ (x2 : Int32) (x3 : Int32) (x4 : Int32) (x5 : Int32) (x6 : Int32) (x7 : Int32) (x8 : Int32) (x9 : Int32) (σ : TS) (H : Heap) (locs : List Loc) (cells slots : Nat) (ls : Array Slot), WI E R s (twS h σ S) H locs cells slots → lv_has ls 11 [(0, .ref h), (2, .int x2), (3, .int x3), (4, .int x4), (5, .int x5), (6, .int x6), (7, .int x7), (8, .int x8), (9, .int x9)] → fX4_willPay_143 N r47 r88 x2 x3 x4 x5 x6 x7 x8 x9 σ = some res → W p l e R s m args below meth c H locs cells slots (MQ below (Qd E R.cells R.slots (some (.int res.1)) (twS h res.2 S)) args s R.cells R.slots (fr E)) (F0 m 143 ls []) := by
  intro x2 x3 x4 x5 x6 x7 x8 x9 σ H locs cells slots ls I hl hf
  obtain ⟨⟨hx, hb, hml, hown, hts⟩, -⟩ := id X
  unfold fX4_willPay_143 at hf
  refine lv_iconst (v := 1) hx hb dX4_willPay_143 (by decide) ?_
  refine lv_goto (tgt := 148) hx hb dX4_willPay_144 (by decide) ?_
  exact wX4_willPay_148 hR X N r47 hr47 r88 hr88 _ _ _ _ _ _ _ _ _ _ _ _ _ _ _ I (lv_sub hl [0, 1, 2, 3, 4, 5, 6, 7, 8] rfl) hf
theorem wX4_willPay_118 {E : EV} {l : Launch} {p : Program} {e : Env} {s : State} {m : MethodId} {args : Array Value} {below : List Frame} {meth : Method} {c : Code} {R : Room} {h : Nat} {S : St} {res : (Int32 × TS)} (hR : 3 ≤ R.frames ∧ 65 ≤ R.locals) (X : MX E p s m args meth c cX4_willPay 11 (some .int) RX4 "willPay") (N : Nat) (r47 : Int32 → Int32 → Int32 → Int32 → TS → Option (Int32 × TS)) (hr47 : ∀ (x2 : Int32) (x3 : Int32) (x4 : Int32) (x5 : Int32) (σ : TS) (H : Heap) (locs : List Loc) (cells slots : Nat) (ls : Array Slot), WI E R s (twS h σ S) H locs cells slots → lv_has ls 11 [(0, .ref h), (2, .int x2), (3, .int x3), (4, .int x4), (5, .int x5)] → r47 x2 x3 x4 x5 σ = some res → W p l e R s m args below meth c H locs cells slots (MQ below (Qd E R.cells R.slots (some (.int res.1)) (twS h res.2 S)) args s R.cells R.slots (fr E)) (F0 m 47 ls [])) (r88 : Int32 → Int32 → Int32 → Int32 → Int32 → Int32 → Int32 → Int32 → TS → Option (Int32 × TS)) (hr88 : ∀ (x2 : Int32) (x3 : Int32) (x4 : Int32) (x5 : Int32) (x6 : Int32) (x7 : Int32) (x8 : Int32) (x9 : Int32) (σ : TS) (H : Heap) (locs : List Loc) (cells slots : Nat) (ls : Array Slot), WI E R s (twS h σ S) H locs cells slots → lv_has ls 11 [(0, .ref h), (2, .int x2), (3, .int x3), (4, .int x4), (5, .int x5), (6, .int x6), (7, .int x7), (8, .int x8), (9, .int x9)] → r88 x2 x3 x4 x5 x6 x7 x8 x9 σ = some res → W p l e R s m args below meth c H locs cells slots (MQ below (Qd E R.cells R.slots (some (.int res.1)) (twS h res.2 S)) args s R.cells R.slots (fr E)) (F0 m 88 ls [])) : ∀ (x2 : Int32) (x3 : Int32) (x4 : Int32) (x5 : Int32) (x6 : Int32) (x7 : Int32) (x8 : Int32) (x9 : Int32) (σ : TS) (H : Heap) (locs : List Loc) (cells slots : Nat) (ls : Array Slot), WI E R s (twS h σ S) H locs cells slots → lv_has ls 11 [(0, .ref h), (2, .int x2), (3, .int x3), (4, .int x4), (5, .int x5), (6, .int x6), (7, .int x7), (8, .int x8), (9, .int x9)] → fX4_willPay_118 N r47 r88 x2 x3 x4 x5 x6 x7 x8 x9 σ = some res → W p l e R s m args below meth c H locs cells slots (MQ below (Qd E R.cells R.slots (some (.int res.1)) (twS h res.2 S)) args s R.cells R.slots (fr E)) (F0 m 118 ls []) := by
  intro x2 x3 x4 x5 x6 x7 x8 x9 σ H locs cells slots ls I hl hf
  obtain ⟨⟨hx, hb, hml, hown, hts⟩, -⟩ := id X
  unfold fX4_willPay_118 at hf
  refine lv_aload_n hx hb dX4_willPay_118 rfl (lv_at hl 0 rfl) ?_
  refine tw_get X I 32 (v := .ref (h + 13)) (by decide) q2719 rfl dX4_willPay_119 ?_
  refine lv_iload hx hb dX4_willPay_122 (lv_at hl 4 rfl) ?_
  obtain ⟨v_7, ev_7, hf⟩ := ob hf
  refine tw_ald X I 13 (by decide) (by decide) (by decide) ev_7 dX4_willPay_124 ?_
  refine lv_iconst (v := 1) hx hb dX4_willPay_125 (by decide) ?_
  refine lv_iand hx hb dX4_willPay_126 ?_
  refine lv_iconst (v := 1) hx hb dX4_willPay_127 (by decide) ?_
  refine lv_icmp_eq (tgt := 143) hx hb dX4_willPay_128 (by decide) (fun c_128 => ?_) (fun c_128 => ?_)
  · have hf := ip c_128 hf
    exact wX4_willPay_143 hR X N r47 hr47 r88 hr88 _ _ _ _ _ _ _ _ _ _ _ _ _ _ I (lv_sub hl [0, 1, 2, 3, 4, 5, 6, 7, 8] rfl) hf
  · have hf := im c_128 hf
    refine lv_aload_n hx hb dX4_willPay_131 rfl (lv_at hl 0 rfl) ?_
    refine tw_get X I 45 (v := .ref (h + 20)) (by decide) q2732 rfl dX4_willPay_132 ?_
    refine lv_iload hx hb dX4_willPay_135 (lv_at hl 8 rfl) ?_
    obtain ⟨v_8, ev_8, hf⟩ := ob hf
    refine tw_ald X I 20 (by decide) (by decide) (by decide) ev_8 dX4_willPay_137 ?_
    refine lv_iload hx hb dX4_willPay_138 (lv_at hl 6 rfl) ?_
    refine lv_icmp_eq (tgt := 147) hx hb dX4_willPay_140 (by decide) (fun c_140 => ?_) (fun c_140 => ?_)
    · have hf := ip c_140 hf
      refine lv_iconst (v := 0) hx hb dX4_willPay_147 (by decide) ?_
      exact wX4_willPay_148 hR X N r47 hr47 r88 hr88 _ _ _ _ _ _ _ _ _ _ _ _ _ _ _ I (lv_sub hl [0, 1, 2, 3, 4, 5, 6, 7, 8] rfl) hf
    · have hf := im c_140 hf
      exact wX4_willPay_143 hR X N r47 hr47 r88 hr88 _ _ _ _ _ _ _ _ _ _ _ _ _ _ I (lv_sub hl [0, 1, 2, 3, 4, 5, 6, 7, 8] rfl) hf
theorem wX4_willPay_88 {E : EV} {l : Launch} {p : Program} {e : Env} {s : State} {m : MethodId} {args : Array Value} {below : List Frame} {meth : Method} {c : Code} {R : Room} {h : Nat} {S : St} {res : (Int32 × TS)} (hR : 3 ≤ R.frames ∧ 65 ≤ R.locals) (X : MX E p s m args meth c cX4_willPay 11 (some .int) RX4 "willPay") (N : Nat) (r47 : Int32 → Int32 → Int32 → Int32 → TS → Option (Int32 × TS)) (hr47 : ∀ (x2 : Int32) (x3 : Int32) (x4 : Int32) (x5 : Int32) (σ : TS) (H : Heap) (locs : List Loc) (cells slots : Nat) (ls : Array Slot), WI E R s (twS h σ S) H locs cells slots → lv_has ls 11 [(0, .ref h), (2, .int x2), (3, .int x3), (4, .int x4), (5, .int x5)] → r47 x2 x3 x4 x5 σ = some res → W p l e R s m args below meth c H locs cells slots (MQ below (Qd E R.cells R.slots (some (.int res.1)) (twS h res.2 S)) args s R.cells R.slots (fr E)) (F0 m 47 ls [])) : ∀ (n : Nat) (x2 : Int32) (x3 : Int32) (x4 : Int32) (x5 : Int32) (x6 : Int32) (x7 : Int32) (x8 : Int32) (x9 : Int32) (σ : TS) (H : Heap) (locs : List Loc) (cells slots : Nat) (ls : Array Slot), WI E R s (twS h σ S) H locs cells slots → lv_has ls 11 [(0, .ref h), (2, .int x2), (3, .int x3), (4, .int x4), (5, .int x5), (6, .int x6), (7, .int x7), (8, .int x8), (9, .int x9)] → fX4_willPay_88 N r47 n x2 x3 x4 x5 x6 x7 x8 x9 σ = some res → W p l e R s m args below meth c H locs cells slots (MQ below (Qd E R.cells R.slots (some (.int res.1)) (twS h res.2 S)) args s R.cells R.slots (fr E)) (F0 m 88 ls []) := by
  intro n
  induction n with
  | zero => intro x2 x3 x4 x5 x6 x7 x8 x9 σ H locs cells slots ls I hl hf; exact nomatch (show none = some res from hf)
  | succ n ih =>
    intro x2 x3 x4 x5 x6 x7 x8 x9 σ H locs cells slots ls I hl hf
    obtain ⟨⟨hx, hb, hml, hown, hts⟩, -⟩ := id X
    rw [fX4_willPay_88.eq_2] at hf
    refine lv_iload hx hb dX4_willPay_88 (lv_at hl 8 rfl) ?_
    refine lv_iload hx hb dX4_willPay_90 (lv_at hl 3 rfl) ?_
    refine lv_icmp_ge (tgt := 190) hx hb dX4_willPay_92 (by decide) (fun c_92 => ?_) (fun c_92 => ?_)
    · have hf := ip c_92 hf
      refine lv_iload hx hb dX4_willPay_190 (lv_at hl 7 rfl) ?_
      refine lv_istore (lv' := [(4, .int x8), (0, .ref h), (2, .int x2), (3, .int x3), (5, .int x5), (6, .int x6), (7, .int x7), (8, .int x8), (9, .int x9)]) hx hb dX4_willPay_192 hl (by decide) rfl (fun ls hl => ?_)
      refine lv_aload_n hx hb dX4_willPay_194 rfl (lv_at hl 1 rfl) ?_
      refine tw_get X I 32 (v := .ref (h + 13)) (by decide) q2719 rfl dX4_willPay_195 ?_
      refine lv_iload hx hb dX4_willPay_198 (lv_at hl 4 rfl) ?_
      obtain ⟨v_9, ev_9, hf⟩ := ob hf
      refine tw_ald X I 13 (by decide) (by decide) (by decide) ev_9 dX4_willPay_200 ?_
      refine lv_iconst (v := 1) hx hb dX4_willPay_201 (by decide) ?_
      refine lv_iand hx hb dX4_willPay_202 ?_
      refine lv_if_eq (tgt := 250) hx hb dX4_willPay_203 (by decide) (fun c_203 => ?_) (fun c_203 => ?_)
      · have hf := ip c_203 hf
        exact wX4_willPay_250 hR X N r47 hr47 _ _ _ _ _ _ _ _ _ _ I (lv_sub hl [1, 2, 3, 0, 4] rfl) hf
      · have hf := im c_203 hf
        refine lv_aload_n hx hb dX4_willPay_206 rfl (lv_at hl 1 rfl) ?_
        refine lv_iload hx hb dX4_willPay_207 (lv_at hl 6 rfl) ?_
        refine lv_bipush (v := 11) hx hb dX4_willPay_209 (by decide) ?_
        obtain ⟨v_10, ev_10, hf⟩ := ob hf
        refine tw_V (some (.int v_10)) (rs := [.int v_10]) (rest := []) (As := [.int x7, .int (11 : Int32)]) X I (mX4_of X.2.2.2.2.1 ev_10) lvX4_of hdX4_of ⟨Nat.le_trans (Nat.le_of_ble_eq_true rfl) hR.1, Nat.le_trans (Nat.le_of_ble_eq_true rfl) hR.2⟩ rfl hl.1 rfl (Nat.le_of_ble_eq_true rfl) rfl dX4_willPay_211 (fun H locs cells slots I => ?_)
        refine lv_iconst (v := 1) hx hb dX4_willPay_214 (by decide) ?_
        refine lv_icmp_ne (tgt := 221) hx hb dX4_willPay_215 (by decide) (fun c_215 => ?_) (fun c_215 => ?_)
        · have hf := im c_215 hf
          refine lv_aload_n hx hb dX4_willPay_221 rfl (lv_at hl 1 rfl) ?_
          refine tw_get X I 45 (v := .ref (h + 20)) (by decide) q2732 rfl dX4_willPay_222 ?_
          refine lv_iload hx hb dX4_willPay_225 (lv_at hl 0 rfl) ?_
          refine lv_iload hx hb dX4_willPay_227 (lv_at hl 6 rfl) ?_
          obtain ⟨σ_12, eσ_12, hf⟩ := ob hf
          refine tw_ast X I 20 (by decide) (by decide) (by decide) eσ_12 dX4_willPay_229 (fun H locs I => ?_)
          obtain ⟨x4_13, ex4_13, hf⟩ := ol hf
          refine lv_iinc (v := x4_13) (lv' := [(4, .int x4_13), (0, .ref h), (2, .int x2), (3, .int x3), (5, .int x5), (6, .int x6), (7, .int x7), (8, .int x8), (9, .int x9)]) hx hb dX4_willPay_230 hl (k := 0) rfl ex4_13 (by decide) rfl (fun ls hl => ?_)
          refine lv_iload_n hx hb dX4_willPay_233 rfl (lv_at hl 3 rfl) ?_
          refine lv_iload hx hb dX4_willPay_234 (lv_at hl 6 rfl) ?_
          refine lv_iload_n hx hb dX4_willPay_236 rfl (lv_at hl 2 rfl) ?_
          refine lv_icmp_ne (tgt := 247) hx hb dX4_willPay_237 (by decide) (fun c_237 => ?_) (fun c_237 => ?_)
          · have hf := im c_237 hf
            refine lv_iconst (v := 0) hx hb dX4_willPay_247 (by decide) ?_
            exact wX4_willPay_248 hR X N r47 hr47 _ _ _ _ _ _ _ _ _ _ _ I (lv_sub hl [1, 2, 0, 4] rfl) hf
          · have hf := ip c_237 hf
            refine lv_aload_n hx hb dX4_willPay_240 rfl (lv_at hl 1 rfl) ?_
            refine tw_get X I 18 (v := .int (σ_12.1 0 18)) (by decide) q2705 rfl dX4_willPay_241 ?_
            refine lv_goto (tgt := 248) hx hb dX4_willPay_244 (by decide) ?_
            exact wX4_willPay_248 hR X N r47 hr47 _ _ _ _ _ _ _ _ _ _ _ I (lv_sub hl [1, 2, 0, 4] rfl) hf
        · have hf := ip c_215 hf
          refine lv_goto (tgt := 250) hx hb dX4_willPay_218 (by decide) ?_
          exact wX4_willPay_250 hR X N r47 hr47 _ _ _ _ _ _ _ _ _ _ I (lv_sub hl [1, 2, 3, 0, 4] rfl) hf
    · have hf := im c_92 hf
      refine lv_aload_n hx hb dX4_willPay_95 rfl (lv_at hl 0 rfl) ?_
      refine tw_get X I 45 (v := .ref (h + 20)) (by decide) q2732 rfl dX4_willPay_96 ?_
      refine lv_iload hx hb dX4_willPay_99 (lv_at hl 8 rfl) ?_
      obtain ⟨v_14, ev_14, hf⟩ := ob hf
      refine tw_ald X I 20 (by decide) (by decide) (by decide) ev_14 dX4_willPay_101 ?_
      refine lv_iload_n hx hb dX4_willPay_102 rfl (lv_at hl 1 rfl) ?_
      refine lv_icmp_ne (tgt := 118) hx hb dX4_willPay_103 (by decide) (fun c_103 => ?_) (fun c_103 => ?_)
      · have hf := im c_103 hf
        exact wX4_willPay_118 hR X N r47 hr47 (fX4_willPay_88 N r47 n) ih _ _ _ _ _ _ _ _ _ _ _ _ _ _ I (lv_sub hl [0, 1, 2, 3, 4, 5, 6, 7, 8] rfl) hf
      · have hf := ip c_103 hf
        refine lv_iload_n hx hb dX4_willPay_106 rfl (lv_at hl 2 rfl) ?_
        refine lv_iload hx hb dX4_willPay_107 (lv_at hl 5 rfl) ?_
        refine lv_iload hx hb dX4_willPay_109 (lv_at hl 3 rfl) ?_
        refine lv_iload hx hb dX4_willPay_111 (lv_at hl 8 rfl) ?_
        obtain ⟨v_15, ev_15, hf⟩ := ob hf
        refine tw_S (some (.int v_15)) (rs := [.int v_15, .int x3]) (rest := [.int x3]) (As := [.int x6, .int x4, .int x9]) X I (mX4_partOf X.2.2.2.2.1 ev_15) lvX4_partOf hdX4_partOf ⟨Nat.le_trans (Nat.le_of_ble_eq_true rfl) hR.1, Nat.le_trans (Nat.le_of_ble_eq_true rfl) hR.2⟩ rfl hl.1 rfl (Nat.le_of_ble_eq_true rfl) rfl dX4_willPay_113 (fun H locs cells slots I => ?_)
        refine lv_iadd hx hb dX4_willPay_116 ?_
        obtain ⟨x3_17, ex3_17, hf⟩ := ol hf
        refine nm_i ex3_17 ?_
        refine lv_istore_n (lv' := [(3, .int x3_17), (0, .ref h), (2, .int x2), (4, .int x4), (5, .int x5), (6, .int x6), (7, .int x7), (8, .int x8), (9, .int x9)]) hx hb dX4_willPay_117 rfl hl (by decide) rfl (fun ls hl => ?_)
        exact wX4_willPay_118 hR X N r47 hr47 (fX4_willPay_88 N r47 n) ih _ _ _ _ _ _ _ _ _ _ _ _ _ _ I (lv_sub hl [1, 2, 0, 3, 4, 5, 6, 7, 8] rfl) hf
theorem wX4_willPay_47 {E : EV} {l : Launch} {p : Program} {e : Env} {s : State} {m : MethodId} {args : Array Value} {below : List Frame} {meth : Method} {c : Code} {R : Room} {h : Nat} {S : St} {res : (Int32 × TS)} (hR : 3 ≤ R.frames ∧ 65 ≤ R.locals) (X : MX E p s m args meth c cX4_willPay 11 (some .int) RX4 "willPay") (N : Nat) : ∀ (n : Nat) (x2 : Int32) (x3 : Int32) (x4 : Int32) (x5 : Int32) (σ : TS) (H : Heap) (locs : List Loc) (cells slots : Nat) (ls : Array Slot), WI E R s (twS h σ S) H locs cells slots → lv_has ls 11 [(0, .ref h), (2, .int x2), (3, .int x3), (4, .int x4), (5, .int x5)] → fX4_willPay_47 N n x2 x3 x4 x5 σ = some res → W p l e R s m args below meth c H locs cells slots (MQ below (Qd E R.cells R.slots (some (.int res.1)) (twS h res.2 S)) args s R.cells R.slots (fr E)) (F0 m 47 ls []) := by
  intro n
  induction n with
  | zero => intro x2 x3 x4 x5 σ H locs cells slots ls I hl hf; exact nomatch (show none = some res from hf)
  | succ n ih =>
    intro x2 x3 x4 x5 σ H locs cells slots ls I hl hf
    obtain ⟨⟨hx, hb, hml, hown, hts⟩, -⟩ := id X
    rw [fX4_willPay_47.eq_2] at hf
    refine lv_iload hx hb dX4_willPay_47 (lv_at hl 4 rfl) ?_
    refine lv_aload_n hx hb dX4_willPay_49 rfl (lv_at hl 0 rfl) ?_
    refine tw_get X I 39 (v := .int (σ.1 0 39)) (by decide) q2726 rfl dX4_willPay_50 ?_
    refine lv_icmp_ge (tgt := 256) hx hb dX4_willPay_53 (by decide) (fun c_53 => ?_) (fun c_53 => ?_)
    · have hf := ip c_53 hf
      refine lv_iload_n hx hb dX4_willPay_256 rfl (lv_at hl 2 rfl) ?_
      cases os hf
      exact r_iret X I dX4_willPay_257
    · have hf := im c_53 hf
      refine lv_aload_n hx hb dX4_willPay_56 rfl (lv_at hl 0 rfl) ?_
      refine lv_aload_n hx hb dX4_willPay_57 rfl (lv_at hl 0 rfl) ?_
      refine tw_get X I 37 (v := .ref (h + 18)) (by decide) q2724 rfl dX4_willPay_58 ?_
      refine lv_iload hx hb dX4_willPay_61 (lv_at hl 4 rfl) ?_
      obtain ⟨v_18, ev_18, hf⟩ := ob hf
      refine tw_ald X I 18 (by decide) (by decide) (by decide) ev_18 dX4_willPay_63 ?_
      refine lv_iload hx hb dX4_willPay_64 (lv_at hl 3 rfl) ?_
      obtain ⟨v_19, ev_19, hf⟩ := ob hf
      refine tw_V (some (.int v_19)) (rs := [.int v_19]) (rest := []) (As := [.int v_18, .int x4]) X I (mX4_amountFor X.2.2.2.2.1 ev_19) lvX4_amountFor hdX4_amountFor ⟨Nat.le_trans (Nat.le_of_ble_eq_true rfl) hR.1, Nat.le_trans (Nat.le_of_ble_eq_true rfl) hR.2⟩ rfl hl.1 rfl (Nat.le_of_ble_eq_true rfl) rfl dX4_willPay_66 (fun H locs cells slots I => ?_)
      refine lv_istore (lv' := [(6, .int v_19), (0, .ref h), (2, .int x2), (3, .int x3), (4, .int x4), (5, .int x5)]) hx hb dX4_willPay_69 hl (by decide) rfl (fun ls hl => ?_)
      refine lv_aload_n hx hb dX4_willPay_71 rfl (lv_at hl 1 rfl) ?_
      refine tw_get X I 32 (v := .ref (h + 13)) (by decide) q2719 rfl dX4_willPay_72 ?_
      refine lv_iload hx hb dX4_willPay_75 (lv_at hl 5 rfl) ?_
      obtain ⟨v_21, ev_21, hf⟩ := ob hf
      refine tw_ald X I 13 (by decide) (by decide) (by decide) ev_21 dX4_willPay_77 ?_
      refine lv_iconst (v := 2) hx hb dX4_willPay_78 (by decide) ?_
      refine lv_idiv hx hb dX4_willPay_79 (by decide) ?_
      obtain ⟨x7_22, ex7_22, hf⟩ := ol hf
      refine nm_i ex7_22 ?_
      refine lv_istore (lv' := [(7, .int x7_22), (6, .int v_19), (0, .ref h), (2, .int x2), (3, .int x3), (4, .int x4), (5, .int x5)]) hx hb dX4_willPay_80 hl (by decide) rfl (fun ls hl => ?_)
      refine lv_iconst (v := 0) hx hb dX4_willPay_82 (by decide) ?_
      refine lv_istore (lv' := [(8, .int (0 : Int32)), (7, .int x7_22), (6, .int v_19), (0, .ref h), (2, .int x2), (3, .int x3), (4, .int x4), (5, .int x5)]) hx hb dX4_willPay_83 hl (by decide) rfl (fun ls hl => ?_)
      refine lv_iconst (v := 0) hx hb dX4_willPay_85 (by decide) ?_
      refine lv_istore (lv' := [(9, .int (0 : Int32)), (8, .int (0 : Int32)), (7, .int x7_22), (6, .int v_19), (0, .ref h), (2, .int x2), (3, .int x3), (4, .int x4), (5, .int x5)]) hx hb dX4_willPay_86 hl (by decide) rfl (fun ls hl => ?_)
      exact wX4_willPay_88 hR X N (fX4_willPay_47 N n) ih N _ _ _ _ _ _ _ _ _ _ _ _ _ _ I (lv_sub hl [4, 5, 6, 7, 8, 3, 2, 1, 0] rfl) hf
theorem wX4_willPay_14 {E : EV} {l : Launch} {p : Program} {e : Env} {s : State} {m : MethodId} {args : Array Value} {below : List Frame} {meth : Method} {c : Code} {R : Room} {h : Nat} {S : St} {res : (Int32 × TS)} (hR : 3 ≤ R.frames ∧ 65 ≤ R.locals) (X : MX E p s m args meth c cX4_willPay 11 (some .int) RX4 "willPay") (N : Nat) : ∀ (n : Nat) (x1 : Int32) (x2 : Int32) (x3 : Int32) (x4 : Int32) (x5 : Int32) (σ : TS) (H : Heap) (locs : List Loc) (cells slots : Nat) (ls : Array Slot), WI E R s (twS h σ S) H locs cells slots → lv_has ls 11 [(0, .ref h), (1, .int x1), (2, .int x2), (3, .int x3), (4, .int x4), (5, .int x5)] → fX4_willPay_14 N n x1 x2 x3 x4 x5 σ = some res → W p l e R s m args below meth c H locs cells slots (MQ below (Qd E R.cells R.slots (some (.int res.1)) (twS h res.2 S)) args s R.cells R.slots (fr E)) (F0 m 14 ls []) := by
  intro n
  induction n with
  | zero => intro x1 x2 x3 x4 x5 σ H locs cells slots ls I hl hf; exact nomatch (show none = some res from hf)
  | succ n ih =>
    intro x1 x2 x3 x4 x5 σ H locs cells slots ls I hl hf
    obtain ⟨⟨hx, hb, hml, hown, hts⟩, -⟩ := id X
    rw [fX4_willPay_14.eq_2] at hf
    refine lv_iload hx hb dX4_willPay_14 (lv_at hl 5 rfl) ?_
    refine lv_iload hx hb dX4_willPay_16 (lv_at hl 4 rfl) ?_
    refine lv_icmp_ge (tgt := 44) hx hb dX4_willPay_18 (by decide) (fun c_18 => ?_) (fun c_18 => ?_)
    · have hf := ip c_18 hf
      refine lv_iconst (v := 0) hx hb dX4_willPay_44 (by decide) ?_
      refine lv_istore (lv' := [(5, .int (0 : Int32)), (0, .ref h), (1, .int x1), (2, .int x2), (3, .int x3), (4, .int x4)]) hx hb dX4_willPay_45 hl (by decide) rfl (fun ls hl => ?_)
      exact wX4_willPay_47 hR X N N _ _ _ _ _ _ _ _ _ _ I (lv_sub hl [1, 3, 4, 5, 0] rfl) hf
    · have hf := im c_18 hf
      refine lv_aload_n hx hb dX4_willPay_21 rfl (lv_at hl 0 rfl) ?_
      refine tw_get X I 45 (v := .ref (h + 20)) (by decide) q2732 rfl dX4_willPay_22 ?_
      refine lv_iload hx hb dX4_willPay_25 (lv_at hl 5 rfl) ?_
      refine lv_aload_n hx hb dX4_willPay_27 rfl (lv_at hl 0 rfl) ?_
      refine lv_iload_n hx hb dX4_willPay_28 rfl (lv_at hl 1 rfl) ?_
      refine lv_bipush (v := 25) hx hb dX4_willPay_29 (by decide) ?_
      refine lv_iload hx hb dX4_willPay_31 (lv_at hl 5 rfl) ?_
      refine lv_iadd hx hb dX4_willPay_33 ?_
      obtain ⟨v_23, ev_23, hf⟩ := ob hf
      refine tw_V (some (.int v_23)) (rs := [.int v_23, .int x5, .ref (h + 20)]) (rest := [.int x5, .ref (h + 20)]) (As := [.int x1, .int ((25 : Int32) + x5)]) X I (mX4_in2 X.2.2.2.2.1 ev_23) lvX4_in2 hdX4_in2 ⟨Nat.le_trans (Nat.le_of_ble_eq_true rfl) hR.1, Nat.le_trans (Nat.le_of_ble_eq_true rfl) hR.2⟩ rfl hl.1 rfl (Nat.le_of_ble_eq_true rfl) rfl dX4_willPay_34 (fun H locs cells slots I => ?_)
      obtain ⟨σ_25, eσ_25, hf⟩ := ob hf
      refine tw_ast X I 20 (by decide) (by decide) (by decide) eσ_25 dX4_willPay_37 (fun H locs I => ?_)
      obtain ⟨x5_26, ex5_26, hf⟩ := ol hf
      refine lv_iinc (v := x5_26) (lv' := [(5, .int x5_26), (0, .ref h), (1, .int x1), (2, .int x2), (3, .int x3), (4, .int x4)]) hx hb dX4_willPay_38 hl (k := 5) rfl ex5_26 (by decide) rfl (fun ls hl => ?_)
      refine lv_goto (tgt := 14) hx hb dX4_willPay_41 (by decide) ?_
      exact ih _ _ _ _ _ _ _ _ _ _ _ I (lv_sub hl [1, 2, 3, 4, 5, 0] rfl) hf
theorem wX4_willPay_0 {E : EV} {l : Launch} {p : Program} {e : Env} {s : State} {m : MethodId} {args : Array Value} {below : List Frame} {meth : Method} {c : Code} {R : Room} {h : Nat} {S : St} {res : (Int32 × TS)} (hR : 3 ≤ R.frames ∧ 65 ≤ R.locals) (X : MX E p s m args meth c cX4_willPay 11 (some .int) RX4 "willPay") (N : Nat) : ∀ (x1 : Int32) (x2 : Int32) (σ : TS) (H : Heap) (locs : List Loc) (cells slots : Nat) (ls : Array Slot), WI E R s (twS h σ S) H locs cells slots → lv_has ls 11 [(0, .ref h), (1, .int x1), (2, .int x2)] → fX4_willPay N σ x1 x2 = some res → W p l e R s m args below meth c H locs cells slots (MQ below (Qd E R.cells R.slots (some (.int res.1)) (twS h res.2 S)) args s R.cells R.slots (fr E)) (F0 m 0 ls []) := by
  intro x1 x2 σ H locs cells slots ls I hl hf
  obtain ⟨⟨hx, hb, hml, hown, hts⟩, -⟩ := id X
  unfold fX4_willPay at hf
  refine lv_iconst (v := 0) hx hb dX4_willPay_0 (by decide) ?_
  refine lv_istore_n (lv' := [(3, .int (0 : Int32)), (0, .ref h), (1, .int x1), (2, .int x2)]) hx hb dX4_willPay_1 rfl hl (by decide) rfl (fun ls hl => ?_)
  refine lv_aload_n hx hb dX4_willPay_2 rfl (lv_at hl 1 rfl) ?_
  refine lv_iload_n hx hb dX4_willPay_3 rfl (lv_at hl 2 rfl) ?_
  refine lv_bipush (v := 24) hx hb dX4_willPay_4 (by decide) ?_
  obtain ⟨v_27, ev_27, hf⟩ := ob hf
  refine tw_V (some (.int v_27)) (rs := [.int v_27]) (rest := []) (As := [.int x1, .int (24 : Int32)]) X I (mX4_in2 X.2.2.2.2.1 ev_27) lvX4_in2 hdX4_in2 ⟨Nat.le_trans (Nat.le_of_ble_eq_true rfl) hR.1, Nat.le_trans (Nat.le_of_ble_eq_true rfl) hR.2⟩ rfl hl.1 rfl (Nat.le_of_ble_eq_true rfl) rfl dX4_willPay_6 (fun H locs cells slots I => ?_)
  refine lv_istore (lv' := [(4, .int v_27), (3, .int (0 : Int32)), (0, .ref h), (1, .int x1), (2, .int x2)]) hx hb dX4_willPay_9 hl (by decide) rfl (fun ls hl => ?_)
  refine lv_iconst (v := 0) hx hb dX4_willPay_11 (by decide) ?_
  refine lv_istore (lv' := [(5, .int (0 : Int32)), (4, .int v_27), (3, .int (0 : Int32)), (0, .ref h), (1, .int x1), (2, .int x2)]) hx hb dX4_willPay_12 hl (by decide) rfl (fun ls hl => ?_)
  exact wX4_willPay_14 hR X N N _ _ _ _ _ _ _ _ _ _ _ I (lv_sub hl [3, 4, 5, 2, 1, 0] rfl) hf
theorem mX4_willPay {E : EV} {l : Launch} {h : Nat} {S : St} {N : Nat} {σ : TS} {x1 : Int32} {x2 : Int32} {res : (Int32 × TS)} (hE : EK E) (hf : fX4_willPay N σ x1 x2 = some res) : CM E l yX4_willPay (ws_ yX4_willPay cX4_willPay 11 (some .int)) 3 65 [.ref h, .int x1, .int x2] (twS h σ S) (some (.int res.1)) (twS h res.2 S) := by
  refine CM.of hE (by decide) rfl rfl (Nat.le_of_ble_eq_true rfl) ?_
  intro p e s m below meth c X I ls hl
  exact wX4_willPay_0 ⟨Nat.le_refl _, Nat.le_refl _⟩ X N _ _ _ _ _ _ _ _ I hl hf
/-! fare(I)I -/
theorem wX4_fare_0 {E : EV} {l : Launch} {p : Program} {e : Env} {s : State} {m : MethodId} {args : Array Value} {below : List Frame} {meth : Method} {c : Code} {R : Room} {h : Nat} {S : St} {res : (Int32 × TS)} (hR : 4 ≤ R.frames ∧ 98 ≤ R.locals) (X : MX E p s m args meth c cX4_fare 3 (some .int) RX4 "fare") (N : Nat) : ∀ (x1 : Int32) (σ : TS) (H : Heap) (locs : List Loc) (cells slots : Nat) (ls : Array Slot), WI E R s (twS h σ S) H locs cells slots → lv_has ls 3 [(0, .ref h), (1, .int x1)] → fX4_fare N σ x1 = some res → W p l e R s m args below meth c H locs cells slots (MQ below (Qd E R.cells R.slots (some (.int res.1)) (twS h res.2 S)) args s R.cells R.slots (fr E)) (F0 m 0 ls []) := by
  intro x1 σ H locs cells slots ls I hl hf
  obtain ⟨⟨hx, hb, hml, hown, hts⟩, -⟩ := id X
  unfold fX4_fare at hf
  refine lv_aload_n hx hb dX4_fare_0 rfl (lv_at hl 0 rfl) ?_
  refine lv_iconst (v := 0) hx hb dX4_fare_1 (by decide) ?_
  obtain ⟨σ_1, eσ_1, hf⟩ := ol hf
  refine tw_put X I 0 (ty := .int) (by decide) (by decide) rfl q2687 rfl rfl rfl rfl eσ_1 dX4_fare_2 (fun H locs I => ?_)
  refine lv_aload_n hx hb dX4_fare_5 rfl (lv_at hl 0 rfl) ?_
  refine lv_iload_n hx hb dX4_fare_6 rfl (lv_at hl 1 rfl) ?_
  obtain ⟨v_2, ev_2, hf⟩ := ob hf
  refine tw_V (some (.int v_2.1)) (rs := [.int v_2.1]) (rest := []) (As := [.int x1]) X I (mX4_noRide X.2.2.2.2.1 ev_2) lvX4_noRide hdX4_noRide ⟨Nat.le_trans (Nat.le_of_ble_eq_true rfl) hR.1, Nat.le_trans (Nat.le_of_ble_eq_true rfl) hR.2⟩ rfl hl.1 rfl (Nat.le_of_ble_eq_true rfl) rfl dX4_fare_7 (fun H locs cells slots I => ?_)
  refine lv_if_eq (tgt := 15) hx hb dX4_fare_10 (by decide) (fun c_10 => ?_) (fun c_10 => ?_)
  · have hf := ip c_10 hf
    refine lv_aload_n hx hb dX4_fare_15 rfl (lv_at hl 0 rfl) ?_
    refine lv_iload_n hx hb dX4_fare_16 rfl (lv_at hl 1 rfl) ?_
    refine lv_iconst (v := 0) hx hb dX4_fare_17 (by decide) ?_
    obtain ⟨v_4, ev_4, hf⟩ := ob hf
    refine tw_V (some (.int v_4)) (rs := [.int v_4]) (rest := []) (As := [.int x1, .int (0 : Int32)]) X I (mX4_of X.2.2.2.2.1 ev_4) lvX4_of hdX4_of ⟨Nat.le_trans (Nat.le_of_ble_eq_true rfl) hR.1, Nat.le_trans (Nat.le_of_ble_eq_true rfl) hR.2⟩ rfl hl.1 rfl (Nat.le_of_ble_eq_true rfl) rfl dX4_fare_18 (fun H locs cells slots I => ?_)
    refine lv_i2l hx hb dX4_fare_21 rfl ?_
    refine lv_lconst (v := 1) hx hb dX4_fare_22 (by decide) ?_
    refine lv_ldc2 (v := 2) hx hb hown (hts _ q3094) dX4_fare_23 ?_
    obtain ⟨v_6, ev_6, hf⟩ := ob hf
    refine tw_S (some (.int v_6)) (rs := [.int v_6]) (rest := []) (As := [.long (v_4.toInt64), .long (1 : Int64), .long (2 : Int64)]) X I (mX4_in X.2.2.2.2.1 ev_6) lvX4_in hdX4_in ⟨Nat.le_trans (Nat.le_of_ble_eq_true rfl) hR.1, Nat.le_trans (Nat.le_of_ble_eq_true rfl) hR.2⟩ rfl hl.1 rfl (Nat.le_of_ble_eq_true rfl) rfl dX4_fare_26 (fun H locs cells slots I => ?_)
    refine lv_if_eq (tgt := 43) hx hb dX4_fare_29 (by decide) (fun c_29 => ?_) (fun c_29 => ?_)
    · have hf := ip c_29 hf
      refine lv_iconst (v := (-1)) hx hb dX4_fare_43 (by decide) ?_
      cases os hf
      exact r_iret X I dX4_fare_44
    · have hf := im c_29 hf
      refine lv_aload_n hx hb dX4_fare_32 rfl (lv_at hl 0 rfl) ?_
      refine lv_iload_n hx hb dX4_fare_33 rfl (lv_at hl 1 rfl) ?_
      refine lv_bipush (v := 11) hx hb dX4_fare_34 (by decide) ?_
      obtain ⟨v_8, ev_8, hf⟩ := ob hf
      refine tw_V (some (.int v_8)) (rs := [.int v_8]) (rest := []) (As := [.int x1, .int (11 : Int32)]) X I (mX4_of X.2.2.2.2.1 ev_8) lvX4_of hdX4_of ⟨Nat.le_trans (Nat.le_of_ble_eq_true rfl) hR.1, Nat.le_trans (Nat.le_of_ble_eq_true rfl) hR.2⟩ rfl hl.1 rfl (Nat.le_of_ble_eq_true rfl) rfl dX4_fare_36 (fun H locs cells slots I => ?_)
      refine lv_iconst (v := 1) hx hb dX4_fare_39 (by decide) ?_
      refine lv_icmp_ne (tgt := 45) hx hb dX4_fare_40 (by decide) (fun c_40 => ?_) (fun c_40 => ?_)
      · have hf := im c_40 hf
        refine lv_aload_n hx hb dX4_fare_45 rfl (lv_at hl 0 rfl) ?_
        refine lv_aload_n hx hb dX4_fare_46 rfl (lv_at hl 0 rfl) ?_
        refine lv_iload_n hx hb dX4_fare_47 rfl (lv_at hl 1 rfl) ?_
        refine lv_bipush (v := 7) hx hb dX4_fare_48 (by decide) ?_
        obtain ⟨v_10, ev_10, hf⟩ := ob hf
        refine tw_V (some (.int v_10)) (rs := [.int v_10, .ref h]) (rest := [.ref h]) (As := [.int x1, .int (7 : Int32)]) X I (mX4_of X.2.2.2.2.1 ev_10) lvX4_of hdX4_of ⟨Nat.le_trans (Nat.le_of_ble_eq_true rfl) hR.1, Nat.le_trans (Nat.le_of_ble_eq_true rfl) hR.2⟩ rfl hl.1 rfl (Nat.le_of_ble_eq_true rfl) rfl dX4_fare_50 (fun H locs cells slots I => ?_)
        obtain ⟨σ_13, eσ_13, hf⟩ := ob hf
        refine tw_V none (rs := []) (rest := []) (As := [.int v_10]) X I (mX4_lists X.2.2.2.2.1 eσ_13) lvX4_lists hdX4_lists ⟨Nat.le_trans (Nat.le_of_ble_eq_true rfl) hR.1, Nat.le_trans (Nat.le_of_ble_eq_true rfl) hR.2⟩ rfl hl.1 rfl (Nat.le_of_ble_eq_true rfl) rfl dX4_fare_53 (fun H locs cells slots I => ?_)
        refine lv_aload_n hx hb dX4_fare_56 rfl (lv_at hl 0 rfl) ?_
        refine lv_aload_n hx hb dX4_fare_57 rfl (lv_at hl 0 rfl) ?_
        refine lv_iload_n hx hb dX4_fare_58 rfl (lv_at hl 1 rfl) ?_
        refine lv_bipush (v := 7) hx hb dX4_fare_59 (by decide) ?_
        obtain ⟨v_14, ev_14, hf⟩ := ob hf
        refine tw_V (some (.int v_14)) (rs := [.int v_14, .ref h]) (rest := [.ref h]) (As := [.int x1, .int (7 : Int32)]) X I (mX4_of X.2.2.2.2.1 ev_14) lvX4_of hdX4_of ⟨Nat.le_trans (Nat.le_of_ble_eq_true rfl) hR.1, Nat.le_trans (Nat.le_of_ble_eq_true rfl) hR.2⟩ rfl hl.1 rfl (Nat.le_of_ble_eq_true rfl) rfl dX4_fare_61 (fun H locs cells slots I => ?_)
        obtain ⟨v_16, ev_16, hf⟩ := ob hf
        refine tw_V (some (.int v_16.1)) (rs := [.int v_16.1]) (rest := []) (As := [.int v_14]) X I (mX4_plans X.2.2.2.2.1 ev_16) lvX4_plans hdX4_plans ⟨Nat.le_trans (Nat.le_of_ble_eq_true rfl) hR.1, Nat.le_trans (Nat.le_of_ble_eq_true rfl) hR.2⟩ rfl hl.1 rfl (Nat.le_of_ble_eq_true rfl) rfl dX4_fare_64 (fun H locs cells slots I => ?_)
        refine lv_istore_n (lv' := [(2, .int v_16.1), (0, .ref h), (1, .int x1)]) hx hb dX4_fare_67 rfl hl (by decide) rfl (fun ls hl => ?_)
        refine lv_aload_n hx hb dX4_fare_68 rfl (lv_at hl 1 rfl) ?_
        refine lv_iload_n hx hb dX4_fare_69 rfl (lv_at hl 2 rfl) ?_
        refine lv_bipush (v := 10) hx hb dX4_fare_70 (by decide) ?_
        obtain ⟨v_18, ev_18, hf⟩ := ob hf
        refine tw_V (some (.int v_18)) (rs := [.int v_18]) (rest := []) (As := [.int x1, .int (10 : Int32)]) X I (mX4_of X.2.2.2.2.1 ev_18) lvX4_of hdX4_of ⟨Nat.le_trans (Nat.le_of_ble_eq_true rfl) hR.1, Nat.le_trans (Nat.le_of_ble_eq_true rfl) hR.2⟩ rfl hl.1 rfl (Nat.le_of_ble_eq_true rfl) rfl dX4_fare_72 (fun H locs cells slots I => ?_)
        refine lv_aload_n hx hb dX4_fare_75 rfl (lv_at hl 1 rfl) ?_
        refine lv_aload_n hx hb dX4_fare_76 rfl (lv_at hl 1 rfl) ?_
        refine lv_iload_n hx hb dX4_fare_77 rfl (lv_at hl 2 rfl) ?_
        refine lv_bipush (v := 7) hx hb dX4_fare_78 (by decide) ?_
        obtain ⟨v_20, ev_20, hf⟩ := ob hf
        refine tw_V (some (.int v_20)) (rs := [.int v_20, .ref h, .int v_18]) (rest := [.ref h, .int v_18]) (As := [.int x1, .int (7 : Int32)]) X I (mX4_of X.2.2.2.2.1 ev_20) lvX4_of hdX4_of ⟨Nat.le_trans (Nat.le_of_ble_eq_true rfl) hR.1, Nat.le_trans (Nat.le_of_ble_eq_true rfl) hR.2⟩ rfl hl.1 rfl (Nat.le_of_ble_eq_true rfl) rfl dX4_fare_80 (fun H locs cells slots I => ?_)
        refine lv_iload_n hx hb dX4_fare_83 rfl (lv_at hl 2 rfl) ?_
        obtain ⟨v_22, ev_22, hf⟩ := ob hf
        refine tw_V (some (.int v_22.1)) (rs := [.int v_22.1, .int v_18]) (rest := [.int v_18]) (As := [.int v_20, .int x1]) X I (mX4_willPay X.2.2.2.2.1 ev_22) lvX4_willPay hdX4_willPay ⟨Nat.le_trans (Nat.le_of_ble_eq_true rfl) hR.1, Nat.le_trans (Nat.le_of_ble_eq_true rfl) hR.2⟩ rfl hl.1 rfl (Nat.le_of_ble_eq_true rfl) rfl dX4_fare_84 (fun H locs cells slots I => ?_)
        refine lv_iadd hx hb dX4_fare_87 ?_
        cases os hf
        exact r_iret X I dX4_fare_88
      · have hf := ip c_40 hf
        refine lv_iconst (v := (-1)) hx hb dX4_fare_43 (by decide) ?_
        cases os hf
        exact r_iret X I dX4_fare_44
  · have hf := im c_10 hf
    refine lv_iconst (v := 0) hx hb dX4_fare_13 (by decide) ?_
    cases os hf
    exact r_iret X I dX4_fare_14
theorem mX4_fare {E : EV} {l : Launch} {h : Nat} {S : St} {N : Nat} {σ : TS} {x1 : Int32} {res : (Int32 × TS)} (hE : EK E) (hf : fX4_fare N σ x1 = some res) : CM E l yX4_fare (ws_ yX4_fare cX4_fare 3 (some .int)) 4 98 [.ref h, .int x1] (twS h σ S) (some (.int res.1)) (twS h res.2 S) := by
  refine CM.of hE (by decide) rfl rfl (Nat.le_of_ble_eq_true rfl) ?_
  intro p e s m below meth c X I ls hl
  exact wX4_fare_0 ⟨Nat.le_refl _, Nat.le_refl _⟩ X N _ _ _ _ _ _ _ I hl hf
/-! aloneFare(II)I -/
theorem wX4_aloneFare_0 {E : EV} {l : Launch} {p : Program} {e : Env} {s : State} {m : MethodId} {args : Array Value} {below : List Frame} {meth : Method} {c : Code} {R : Room} {h : Nat} {S : St} {res : (Int32 × TS)} (hR : 2 ≤ R.frames ∧ 46 ≤ R.locals) (X : MX E p s m args meth c cX4_aloneFare 3 (some .int) RX4 "aloneFare") : ∀ (x1 : Int32) (x2 : Int32) (σ : TS) (H : Heap) (locs : List Loc) (cells slots : Nat) (ls : Array Slot), WI E R s (twS h σ S) H locs cells slots → lv_has ls 3 [(0, .ref h), (1, .int x1), (2, .int x2)] → fX4_aloneFare σ x1 x2 = some res → W p l e R s m args below meth c H locs cells slots (MQ below (Qd E R.cells R.slots (some (.int res.1)) (twS h res.2 S)) args s R.cells R.slots (fr E)) (F0 m 0 ls []) := by
  intro x1 x2 σ H locs cells slots ls I hl hf
  obtain ⟨⟨hx, hb, hml, hown, hts⟩, -⟩ := id X
  unfold fX4_aloneFare at hf
  refine lv_aload_n hx hb dX4_aloneFare_0 rfl (lv_at hl 0 rfl) ?_
  refine lv_iconst (v := 0) hx hb dX4_aloneFare_1 (by decide) ?_
  obtain ⟨σ_1, eσ_1, hf⟩ := ol hf
  refine tw_put X I 0 (ty := .int) (by decide) (by decide) rfl q2687 rfl rfl rfl rfl eσ_1 dX4_aloneFare_2 (fun H locs I => ?_)
  refine lv_aload_n hx hb dX4_aloneFare_5 rfl (lv_at hl 0 rfl) ?_
  refine lv_iload_n hx hb dX4_aloneFare_6 rfl (lv_at hl 1 rfl) ?_
  obtain ⟨v_2, ev_2, hf⟩ := ob hf
  refine tw_V (some (.int v_2.1)) (rs := [.int v_2.1]) (rest := []) (As := [.int x1]) X I (mX4_noZone X.2.2.2.2.1 ev_2) lvX4_noZone hdX4_noZone ⟨Nat.le_trans (Nat.le_of_ble_eq_true rfl) hR.1, Nat.le_trans (Nat.le_of_ble_eq_true rfl) hR.2⟩ rfl hl.1 rfl (Nat.le_of_ble_eq_true rfl) rfl dX4_aloneFare_7 (fun H locs cells slots I => ?_)
  refine lv_if_ne (tgt := 21) hx hb dX4_aloneFare_10 (by decide) (fun c_10 => ?_) (fun c_10 => ?_)
  · have hf := im c_10 hf
    refine lv_iconst (v := 0) hx hb dX4_aloneFare_21 (by decide) ?_
    cases os hf
    exact r_iret X I dX4_aloneFare_22
  · have hf := ip c_10 hf
    refine lv_aload_n hx hb dX4_aloneFare_13 rfl (lv_at hl 0 rfl) ?_
    refine lv_iload_n hx hb dX4_aloneFare_14 rfl (lv_at hl 2 rfl) ?_
    obtain ⟨v_4, ev_4, hf⟩ := ob hf
    refine tw_V (some (.int v_4.1)) (rs := [.int v_4.1]) (rest := []) (As := [.int x2]) X I (mX4_noZone X.2.2.2.2.1 ev_4) lvX4_noZone hdX4_noZone ⟨Nat.le_trans (Nat.le_of_ble_eq_true rfl) hR.1, Nat.le_trans (Nat.le_of_ble_eq_true rfl) hR.2⟩ rfl hl.1 rfl (Nat.le_of_ble_eq_true rfl) rfl dX4_aloneFare_15 (fun H locs cells slots I => ?_)
    refine lv_if_eq (tgt := 23) hx hb dX4_aloneFare_18 (by decide) (fun c_18 => ?_) (fun c_18 => ?_)
    · have hf := ip c_18 hf
      refine lv_aload_n hx hb dX4_aloneFare_23 rfl (lv_at hl 0 rfl) ?_
      refine lv_iload_n hx hb dX4_aloneFare_24 rfl (lv_at hl 1 rfl) ?_
      refine lv_iload_n hx hb dX4_aloneFare_25 rfl (lv_at hl 2 rfl) ?_
      obtain ⟨v_6, ev_6, hf⟩ := ob hf
      refine tw_V (some (.int v_6)) (rs := [.int v_6]) (rest := []) (As := [.int x1, .int x2]) X I (mX4_minutesOf X.2.2.2.2.1 ev_6) lvX4_minutesOf hdX4_minutesOf ⟨Nat.le_trans (Nat.le_of_ble_eq_true rfl) hR.1, Nat.le_trans (Nat.le_of_ble_eq_true rfl) hR.2⟩ rfl hl.1 rfl (Nat.le_of_ble_eq_true rfl) rfl dX4_aloneFare_26 (fun H locs cells slots I => ?_)
      refine lv_iconst (v := (-1)) hx hb dX4_aloneFare_29 (by decide) ?_
      refine lv_icmp_ne (tgt := 37) hx hb dX4_aloneFare_30 (by decide) (fun c_30 => ?_) (fun c_30 => ?_)
      · have hf := im c_30 hf
        refine lv_aload_n hx hb dX4_aloneFare_37 rfl (lv_at hl 0 rfl) ?_
        refine tw_get X I 18 (v := .int (v_4.2.1 0 18)) (by decide) q2705 rfl dX4_aloneFare_38 ?_
        refine lv_aload_n hx hb dX4_aloneFare_41 rfl (lv_at hl 0 rfl) ?_
        refine lv_iload_n hx hb dX4_aloneFare_42 rfl (lv_at hl 1 rfl) ?_
        refine lv_iload_n hx hb dX4_aloneFare_43 rfl (lv_at hl 2 rfl) ?_
        obtain ⟨v_8, ev_8, hf⟩ := ob hf
        refine tw_V (some (.int v_8)) (rs := [.int v_8, .int (v_4.2.1 0 18)]) (rest := [.int (v_4.2.1 0 18)]) (As := [.int x1, .int x2]) X I (mX4_minutesOf X.2.2.2.2.1 ev_8) lvX4_minutesOf hdX4_minutesOf ⟨Nat.le_trans (Nat.le_of_ble_eq_true rfl) hR.1, Nat.le_trans (Nat.le_of_ble_eq_true rfl) hR.2⟩ rfl hl.1 rfl (Nat.le_of_ble_eq_true rfl) rfl dX4_aloneFare_44 (fun H locs cells slots I => ?_)
        refine lv_aload_n hx hb dX4_aloneFare_47 rfl (lv_at hl 0 rfl) ?_
        refine tw_get X I 1 (v := .ref (h + 1)) (by decide) q2688 rfl dX4_aloneFare_48 ?_
        refine lv_iconst (v := 2) hx hb dX4_aloneFare_51 (by decide) ?_
        obtain ⟨v_10, ev_10, hf⟩ := ob hf
        refine tw_ald X I 1 (by decide) (by decide) (by decide) ev_10 dX4_aloneFare_52 ?_
        refine lv_imul hx hb dX4_aloneFare_53 ?_
        refine lv_iadd hx hb dX4_aloneFare_54 ?_
        cases os hf
        exact r_iret X I dX4_aloneFare_55
      · have hf := ip c_30 hf
        refine lv_iconst (v := (-1)) hx hb dX4_aloneFare_33 (by decide) ?_
        refine lv_goto (tgt := 55) hx hb dX4_aloneFare_34 (by decide) ?_
        cases os hf
        exact r_iret X I dX4_aloneFare_55
    · have hf := im c_18 hf
      refine lv_iconst (v := 0) hx hb dX4_aloneFare_21 (by decide) ?_
      cases os hf
      exact r_iret X I dX4_aloneFare_22
theorem mX4_aloneFare {E : EV} {l : Launch} {h : Nat} {S : St} {σ : TS} {x1 : Int32} {x2 : Int32} {res : (Int32 × TS)} (hE : EK E) (hf : fX4_aloneFare σ x1 x2 = some res) : CM E l yX4_aloneFare (ws_ yX4_aloneFare cX4_aloneFare 3 (some .int)) 2 46 [.ref h, .int x1, .int x2] (twS h σ S) (some (.int res.1)) (twS h res.2 S) := by
  refine CM.of hE (by decide) rfl rfl (Nat.le_of_ble_eq_true rfl) ?_
  intro p e s m below meth c X I ls hl
  exact wX4_aloneFare_0 ⟨Nat.le_refl _, Nat.le_refl _⟩ X _ _ _ _ _ _ _ _ I hl hf
/-! keeps(I)Z -/
theorem wX4_keeps_0 {E : EV} {l : Launch} {p : Program} {e : Env} {s : State} {m : MethodId} {args : Array Value} {below : List Frame} {meth : Method} {c : Code} {R : Room} {h : Nat} {S : St} {res : (Int32 × TS)} (hR : 4 ≤ R.frames ∧ 98 ≤ R.locals) (X : MX E p s m args meth c cX4_keeps 2 (some .boolean) RX4 "keeps") (N : Nat) : ∀ (x1 : Int32) (σ : TS) (H : Heap) (locs : List Loc) (cells slots : Nat) (ls : Array Slot), WI E R s (twS h σ S) H locs cells slots → lv_has ls 2 [(0, .ref h), (1, .int x1)] → fX4_keeps N σ x1 = some res → W p l e R s m args below meth c H locs cells slots (MQ below (Qd E R.cells R.slots (some (.int res.1)) (twS h res.2 S)) args s R.cells R.slots (fr E)) (F0 m 0 ls []) := by
  intro x1 σ H locs cells slots ls I hl hf
  obtain ⟨⟨hx, hb, hml, hown, hts⟩, -⟩ := id X
  unfold fX4_keeps at hf
  refine lv_aload_n hx hb dX4_keeps_0 rfl (lv_at hl 0 rfl) ?_
  refine lv_iconst (v := 0) hx hb dX4_keeps_1 (by decide) ?_
  obtain ⟨σ_1, eσ_1, hf⟩ := ol hf
  refine tw_put X I 0 (ty := .int) (by decide) (by decide) rfl q2687 rfl rfl rfl rfl eσ_1 dX4_keeps_2 (fun H locs I => ?_)
  refine lv_aload_n hx hb dX4_keeps_5 rfl (lv_at hl 0 rfl) ?_
  refine lv_iload_n hx hb dX4_keeps_6 rfl (lv_at hl 1 rfl) ?_
  obtain ⟨v_2, ev_2, hf⟩ := ob hf
  refine tw_V (some (.int v_2.1)) (rs := [.int v_2.1]) (rest := []) (As := [.int x1]) X I (mX4_noTaxi X.2.2.2.2.1 ev_2) lvX4_noTaxi hdX4_noTaxi ⟨Nat.le_trans (Nat.le_of_ble_eq_true rfl) hR.1, Nat.le_trans (Nat.le_of_ble_eq_true rfl) hR.2⟩ rfl hl.1 rfl (Nat.le_of_ble_eq_true rfl) rfl dX4_keeps_7 (fun H locs cells slots I => ?_)
  refine lv_if_eq (tgt := 15) hx hb dX4_keeps_10 (by decide) (fun c_10 => ?_) (fun c_10 => ?_)
  · have hf := ip c_10 hf
    refine lv_aload_n hx hb dX4_keeps_15 rfl (lv_at hl 0 rfl) ?_
    refine lv_iload_n hx hb dX4_keeps_16 rfl (lv_at hl 1 rfl) ?_
    obtain ⟨σ_5, eσ_5, hf⟩ := ob hf
    refine tw_V none (rs := []) (rest := []) (As := [.int x1]) X I (mX4_lists X.2.2.2.2.1 eσ_5) lvX4_lists hdX4_lists ⟨Nat.le_trans (Nat.le_of_ble_eq_true rfl) hR.1, Nat.le_trans (Nat.le_of_ble_eq_true rfl) hR.2⟩ rfl hl.1 rfl (Nat.le_of_ble_eq_true rfl) rfl dX4_keeps_17 (fun H locs cells slots I => ?_)
    refine lv_aload_n hx hb dX4_keeps_20 rfl (lv_at hl 0 rfl) ?_
    refine lv_iload_n hx hb dX4_keeps_21 rfl (lv_at hl 1 rfl) ?_
    obtain ⟨v_6, ev_6, hf⟩ := ob hf
    refine tw_V (some (.int v_6.1)) (rs := [.int v_6.1]) (rest := []) (As := [.int x1]) X I (mX4_plans X.2.2.2.2.1 ev_6) lvX4_plans hdX4_plans ⟨Nat.le_trans (Nat.le_of_ble_eq_true rfl) hR.1, Nat.le_trans (Nat.le_of_ble_eq_true rfl) hR.2⟩ rfl hl.1 rfl (Nat.le_of_ble_eq_true rfl) rfl dX4_keeps_22 (fun H locs cells slots I => ?_)
    by_cases d_25 : ¬ (v_6.1 = 0 ∨ v_6.1 = 1)
    · rw [if_neg d_25] at hf; cases hf
    have c_25 := Decidable.not_not.mp d_25
    have hf := ip c_25 hf
    cases os hf
    exact r_zret X I c_25 dX4_keeps_25
  · have hf := im c_10 hf
    refine lv_iconst (v := 0) hx hb dX4_keeps_13 (by decide) ?_
    cases os hf
    exact r_zret X I (Or.inl rfl) dX4_keeps_14
theorem mX4_keeps {E : EV} {l : Launch} {h : Nat} {S : St} {N : Nat} {σ : TS} {x1 : Int32} {res : (Int32 × TS)} (hE : EK E) (hf : fX4_keeps N σ x1 = some res) : CM E l yX4_keeps (ws_ yX4_keeps cX4_keeps 2 (some .boolean)) 4 98 [.ref h, .int x1] (twS h σ S) (some (.int res.1)) (twS h res.2 S) := by
  refine CM.of hE (by decide) rfl rfl (Nat.le_of_ble_eq_true rfl) ?_
  intro p e s m below meth c X I ls hl
  exact wX4_keeps_0 ⟨Nat.le_refl _, Nat.le_refl _⟩ X N _ _ _ _ _ _ _ I hl hf
/-! routeMinutes(I)I -/
theorem wX4_routeMinutes_0 {E : EV} {l : Launch} {p : Program} {e : Env} {s : State} {m : MethodId} {args : Array Value} {below : List Frame} {meth : Method} {c : Code} {R : Room} {h : Nat} {S : St} {res : (Int32 × TS)} (hR : 3 ≤ R.frames ∧ 68 ≤ R.locals) (X : MX E p s m args meth c cX4_routeMinutes 2 (some .int) RX4 "routeMinutes") (N : Nat) : ∀ (x1 : Int32) (σ : TS) (H : Heap) (locs : List Loc) (cells slots : Nat) (ls : Array Slot), WI E R s (twS h σ S) H locs cells slots → lv_has ls 2 [(0, .ref h), (1, .int x1)] → fX4_routeMinutes N σ x1 = some res → W p l e R s m args below meth c H locs cells slots (MQ below (Qd E R.cells R.slots (some (.int res.1)) (twS h res.2 S)) args s R.cells R.slots (fr E)) (F0 m 0 ls []) := by
  intro x1 σ H locs cells slots ls I hl hf
  obtain ⟨⟨hx, hb, hml, hown, hts⟩, -⟩ := id X
  unfold fX4_routeMinutes at hf
  refine lv_aload_n hx hb dX4_routeMinutes_0 rfl (lv_at hl 0 rfl) ?_
  refine lv_iconst (v := 0) hx hb dX4_routeMinutes_1 (by decide) ?_
  obtain ⟨σ_1, eσ_1, hf⟩ := ol hf
  refine tw_put X I 0 (ty := .int) (by decide) (by decide) rfl q2687 rfl rfl rfl rfl eσ_1 dX4_routeMinutes_2 (fun H locs I => ?_)
  refine lv_aload_n hx hb dX4_routeMinutes_5 rfl (lv_at hl 0 rfl) ?_
  refine lv_iload_n hx hb dX4_routeMinutes_6 rfl (lv_at hl 1 rfl) ?_
  obtain ⟨v_2, ev_2, hf⟩ := ob hf
  refine tw_V (some (.int v_2.1)) (rs := [.int v_2.1]) (rest := []) (As := [.int x1]) X I (mX4_noTaxi X.2.2.2.2.1 ev_2) lvX4_noTaxi hdX4_noTaxi ⟨Nat.le_trans (Nat.le_of_ble_eq_true rfl) hR.1, Nat.le_trans (Nat.le_of_ble_eq_true rfl) hR.2⟩ rfl hl.1 rfl (Nat.le_of_ble_eq_true rfl) rfl dX4_routeMinutes_7 (fun H locs cells slots I => ?_)
  refine lv_if_eq (tgt := 15) hx hb dX4_routeMinutes_10 (by decide) (fun c_10 => ?_) (fun c_10 => ?_)
  · have hf := ip c_10 hf
    refine lv_aload_n hx hb dX4_routeMinutes_15 rfl (lv_at hl 0 rfl) ?_
    refine lv_iload_n hx hb dX4_routeMinutes_16 rfl (lv_at hl 1 rfl) ?_
    obtain ⟨σ_5, eσ_5, hf⟩ := ob hf
    refine tw_V none (rs := []) (rest := []) (As := [.int x1]) X I (mX4_lists X.2.2.2.2.1 eσ_5) lvX4_lists hdX4_lists ⟨Nat.le_trans (Nat.le_of_ble_eq_true rfl) hR.1, Nat.le_trans (Nat.le_of_ble_eq_true rfl) hR.2⟩ rfl hl.1 rfl (Nat.le_of_ble_eq_true rfl) rfl dX4_routeMinutes_17 (fun H locs cells slots I => ?_)
    refine lv_aload_n hx hb dX4_routeMinutes_20 rfl (lv_at hl 0 rfl) ?_
    refine lv_iload_n hx hb dX4_routeMinutes_21 rfl (lv_at hl 1 rfl) ?_
    obtain ⟨v_6, ev_6, hf⟩ := ob hf
    refine tw_V (some (.int v_6)) (rs := [.int v_6]) (rest := []) (As := [.int x1]) X I (mX4_sumOfWays X.2.2.2.2.1 ev_6) lvX4_sumOfWays hdX4_sumOfWays ⟨Nat.le_trans (Nat.le_of_ble_eq_true rfl) hR.1, Nat.le_trans (Nat.le_of_ble_eq_true rfl) hR.2⟩ rfl hl.1 rfl (Nat.le_of_ble_eq_true rfl) rfl dX4_routeMinutes_22 (fun H locs cells slots I => ?_)
    cases os hf
    exact r_iret X I dX4_routeMinutes_25
  · have hf := im c_10 hf
    refine lv_iconst (v := 0) hx hb dX4_routeMinutes_13 (by decide) ?_
    cases os hf
    exact r_iret X I dX4_routeMinutes_14
theorem mX4_routeMinutes {E : EV} {l : Launch} {h : Nat} {S : St} {N : Nat} {σ : TS} {x1 : Int32} {res : (Int32 × TS)} (hE : EK E) (hf : fX4_routeMinutes N σ x1 = some res) : CM E l yX4_routeMinutes (ws_ yX4_routeMinutes cX4_routeMinutes 2 (some .int)) 3 68 [.ref h, .int x1] (twS h σ S) (some (.int res.1)) (twS h res.2 S) := by
  refine CM.of hE (by decide) rfl rfl (Nat.le_of_ble_eq_true rfl) ?_
  intro p e s m below meth c X I ls hl
  exact wX4_routeMinutes_0 ⟨Nat.le_refl _, Nat.le_refl _⟩ X N _ _ _ _ _ _ _ I hl hf
/-! rides(I)I -/
theorem wX4_rides_0 {E : EV} {l : Launch} {p : Program} {e : Env} {s : State} {m : MethodId} {args : Array Value} {below : List Frame} {meth : Method} {c : Code} {R : Room} {h : Nat} {S : St} {res : (Int32 × TS)} (hR : 2 ≤ R.frames ∧ 45 ≤ R.locals) (X : MX E p s m args meth c cX4_rides 2 (some .int) RX4 "rides") (N : Nat) : ∀ (x1 : Int32) (σ : TS) (H : Heap) (locs : List Loc) (cells slots : Nat) (ls : Array Slot), WI E R s (twS h σ S) H locs cells slots → lv_has ls 2 [(0, .ref h), (1, .int x1)] → fX4_rides N σ x1 = some res → W p l e R s m args below meth c H locs cells slots (MQ below (Qd E R.cells R.slots (some (.int res.1)) (twS h res.2 S)) args s R.cells R.slots (fr E)) (F0 m 0 ls []) := by
  intro x1 σ H locs cells slots ls I hl hf
  obtain ⟨⟨hx, hb, hml, hown, hts⟩, -⟩ := id X
  unfold fX4_rides at hf
  refine lv_aload_n hx hb dX4_rides_0 rfl (lv_at hl 0 rfl) ?_
  refine lv_iconst (v := 0) hx hb dX4_rides_1 (by decide) ?_
  obtain ⟨σ_1, eσ_1, hf⟩ := ol hf
  refine tw_put X I 0 (ty := .int) (by decide) (by decide) rfl q2687 rfl rfl rfl rfl eσ_1 dX4_rides_2 (fun H locs I => ?_)
  refine lv_aload_n hx hb dX4_rides_5 rfl (lv_at hl 0 rfl) ?_
  refine lv_iload_n hx hb dX4_rides_6 rfl (lv_at hl 1 rfl) ?_
  refine lv_i2l hx hb dX4_rides_7 rfl ?_
  refine lv_lconst (v := 0) hx hb dX4_rides_8 (by decide) ?_
  refine lv_ldc2 (v := 6) hx hb hown (hts _ q3129) dX4_rides_9 ?_
  obtain ⟨v_2, ev_2, hf⟩ := ob hf
  refine tw_S (some (.int v_2)) (rs := [.int v_2, .ref h]) (rest := [.ref h]) (As := [.long (x1.toInt64), .long (0 : Int64), .long (6 : Int64)]) X I (mX4_in X.2.2.2.2.1 ev_2) lvX4_in hdX4_in ⟨Nat.le_trans (Nat.le_of_ble_eq_true rfl) hR.1, Nat.le_trans (Nat.le_of_ble_eq_true rfl) hR.2⟩ rfl hl.1 rfl (Nat.le_of_ble_eq_true rfl) rfl dX4_rides_12 (fun H locs cells slots I => ?_)
  refine lv_iconst (v := 1) hx hb dX4_rides_15 (by decide) ?_
  obtain ⟨v_4, ev_4, hf⟩ := ob hf
  refine tw_V (some (.int v_4.1)) (rs := [.int v_4.1]) (rest := []) (As := [.int v_2, .int (1 : Int32)]) X I (mX4_fails X.2.2.2.2.1 ev_4) lvX4_fails hdX4_fails ⟨Nat.le_trans (Nat.le_of_ble_eq_true rfl) hR.1, Nat.le_trans (Nat.le_of_ble_eq_true rfl) hR.2⟩ rfl hl.1 rfl (Nat.le_of_ble_eq_true rfl) rfl dX4_rides_16 (fun H locs cells slots I => ?_)
  refine lv_if_eq (tgt := 26) hx hb dX4_rides_19 (by decide) (fun c_19 => ?_) (fun c_19 => ?_)
  · have hf := ip c_19 hf
    refine lv_aload_n hx hb dX4_rides_26 rfl (lv_at hl 0 rfl) ?_
    refine lv_iload_n hx hb dX4_rides_27 rfl (lv_at hl 1 rfl) ?_
    obtain ⟨v_6, ev_6, hf⟩ := ob hf
    refine tw_V (some (.int v_6)) (rs := [.int v_6]) (rest := []) (As := [.int x1]) X I (mX4_ridesIn X.2.2.2.2.1 ev_6) lvX4_ridesIn hdX4_ridesIn ⟨Nat.le_trans (Nat.le_of_ble_eq_true rfl) hR.1, Nat.le_trans (Nat.le_of_ble_eq_true rfl) hR.2⟩ rfl hl.1 rfl (Nat.le_of_ble_eq_true rfl) rfl dX4_rides_28 (fun H locs cells slots I => ?_)
    cases os hf
    exact r_iret X I dX4_rides_31
  · have hf := im c_19 hf
    refine lv_iconst (v := 0) hx hb dX4_rides_22 (by decide) ?_
    refine lv_goto (tgt := 31) hx hb dX4_rides_23 (by decide) ?_
    cases os hf
    exact r_iret X I dX4_rides_31
theorem mX4_rides {E : EV} {l : Launch} {h : Nat} {S : St} {N : Nat} {σ : TS} {x1 : Int32} {res : (Int32 × TS)} (hE : EK E) (hf : fX4_rides N σ x1 = some res) : CM E l yX4_rides (ws_ yX4_rides cX4_rides 2 (some .int)) 2 45 [.ref h, .int x1] (twS h σ S) (some (.int res.1)) (twS h res.2 S) := by
  refine CM.of hE (by decide) rfl rfl (Nat.le_of_ble_eq_true rfl) ?_
  intro p e s m below meth c X I ls hl
  exact wX4_rides_0 ⟨Nat.le_refl _, Nat.le_refl _⟩ X N _ _ _ _ _ _ _ I hl hf
/-! meanFare()D -/
theorem wX4_meanFare_47 {E : EV} {l : Launch} {p : Program} {e : Env} {s : State} {m : MethodId} {args : Array Value} {below : List Frame} {meth : Method} {c : Code} {R : Room} {h : Nat} {S : St} {res : (UInt64 × TS)} (hR : 1 ≤ R.frames ∧ 22 ≤ R.locals) (X : MX E p s m args meth c cX4_meanFare 4 (some .double) RX4 "meanFare") (N : Nat) (r11 : Int32 → Int32 → Int32 → TS → Option (UInt64 × TS)) (hr11 : ∀ (x1 : Int32) (x2 : Int32) (x3 : Int32) (σ : TS) (H : Heap) (locs : List Loc) (cells slots : Nat) (ls : Array Slot), WI E R s (twS h σ S) H locs cells slots → lv_has ls 4 [(0, .ref h), (1, .int x1), (2, .int x2), (3, .int x3)] → r11 x1 x2 x3 σ = some res → W p l e R s m args below meth c H locs cells slots (MQ below (Qd E R.cells R.slots (some (.double res.1)) (twS h res.2 S)) args s R.cells R.slots (fr E)) (F0 m 11 ls [])) : ∀ (x1 : Int32) (x2 : Int32) (x3 : Int32) (σ : TS) (H : Heap) (locs : List Loc) (cells slots : Nat) (ls : Array Slot), WI E R s (twS h σ S) H locs cells slots → lv_has ls 4 [(0, .ref h), (1, .int x1), (2, .int x2), (3, .int x3)] → fX4_meanFare_47 N r11 x1 x2 x3 σ = some res → W p l e R s m args below meth c H locs cells slots (MQ below (Qd E R.cells R.slots (some (.double res.1)) (twS h res.2 S)) args s R.cells R.slots (fr E)) (F0 m 47 ls []) := by
  intro x1 x2 x3 σ H locs cells slots ls I hl hf
  obtain ⟨⟨hx, hb, hml, hown, hts⟩, -⟩ := id X
  unfold fX4_meanFare_47 at hf
  obtain ⟨x3_1, ex3_1, hf⟩ := ol hf
  refine lv_iinc (v := x3_1) (lv' := [(3, .int x3_1), (0, .ref h), (1, .int x1), (2, .int x2)]) hx hb dX4_meanFare_47 hl (k := 3) rfl ex3_1 (by decide) rfl (fun ls hl => ?_)
  refine lv_goto (tgt := 11) hx hb dX4_meanFare_50 (by decide) ?_
  exact hr11 _ _ _ _ _ _ _ _ _ I (lv_sub hl [1, 2, 3, 0] rfl) hf
theorem wX4_meanFare_11 {E : EV} {l : Launch} {p : Program} {e : Env} {s : State} {m : MethodId} {args : Array Value} {below : List Frame} {meth : Method} {c : Code} {R : Room} {h : Nat} {S : St} {res : (UInt64 × TS)} (hR : 1 ≤ R.frames ∧ 22 ≤ R.locals) (X : MX E p s m args meth c cX4_meanFare 4 (some .double) RX4 "meanFare") (N : Nat) : ∀ (n : Nat) (x1 : Int32) (x2 : Int32) (x3 : Int32) (σ : TS) (H : Heap) (locs : List Loc) (cells slots : Nat) (ls : Array Slot), WI E R s (twS h σ S) H locs cells slots → lv_has ls 4 [(0, .ref h), (1, .int x1), (2, .int x2), (3, .int x3)] → fX4_meanFare_11 N n x1 x2 x3 σ = some res → W p l e R s m args below meth c H locs cells slots (MQ below (Qd E R.cells R.slots (some (.double res.1)) (twS h res.2 S)) args s R.cells R.slots (fr E)) (F0 m 11 ls []) := by
  intro n
  induction n with
  | zero => intro x1 x2 x3 σ H locs cells slots ls I hl hf; exact nomatch (show none = some res from hf)
  | succ n ih =>
    intro x1 x2 x3 σ H locs cells slots ls I hl hf
    obtain ⟨⟨hx, hb, hml, hown, hts⟩, -⟩ := id X
    rw [fX4_meanFare_11.eq_2] at hf
    refine lv_iload_n hx hb dX4_meanFare_11 rfl (lv_at hl 3 rfl) ?_
    refine lv_aload_n hx hb dX4_meanFare_12 rfl (lv_at hl 0 rfl) ?_
    refine tw_get X I 1 (v := .ref (h + 1)) (by decide) q2688 rfl dX4_meanFare_13 ?_
    refine lv_iconst (v := 1) hx hb dX4_meanFare_16 (by decide) ?_
    obtain ⟨v_2, ev_2, hf⟩ := ob hf
    refine tw_ald X I 1 (by decide) (by decide) (by decide) ev_2 dX4_meanFare_17 ?_
    refine lv_icmp_ge (tgt := 53) hx hb dX4_meanFare_18 (by decide) (fun c_18 => ?_) (fun c_18 => ?_)
    · have hf := ip c_18 hf
      refine lv_iload_n hx hb dX4_meanFare_53 rfl (lv_at hl 2 rfl) ?_
      refine lv_if_ne (tgt := 61) hx hb dX4_meanFare_54 (by decide) (fun c_54 => ?_) (fun c_54 => ?_)
      · have hf := im c_54 hf
        refine lv_iload_n hx hb dX4_meanFare_61 rfl (lv_at hl 1 rfl) ?_
        refine lv_i2d hx hb dX4_meanFare_62 ?_
        refine lv_iload_n hx hb dX4_meanFare_63 rfl (lv_at hl 2 rfl) ?_
        refine lv_i2d hx hb dX4_meanFare_64 ?_
        by_cases d_65 : ¬ nn64 (FP.ddiv (FP.i2d x1) (FP.i2d x2)) = true
        · rw [if_neg d_65] at hf; cases hf
        have c_65 := Decidable.not_not.mp d_65
        have hf := ip c_65 hf
        refine lv_ddiv hx hb dX4_meanFare_65 (nn64_ok c_65) ?_
        cases os hf
        exact r_dret X I dX4_meanFare_66
      · have hf := ip c_54 hf
        refine lv_dconst0 hx hb dX4_meanFare_57 ?_
        refine lv_goto (tgt := 66) hx hb dX4_meanFare_58 (by decide) ?_
        cases os hf
        exact r_dret X I dX4_meanFare_66
    · have hf := im c_18 hf
      refine lv_aload_n hx hb dX4_meanFare_21 rfl (lv_at hl 0 rfl) ?_
      refine lv_iload_n hx hb dX4_meanFare_22 rfl (lv_at hl 3 rfl) ?_
      refine lv_iconst (v := 0) hx hb dX4_meanFare_23 (by decide) ?_
      obtain ⟨v_3, ev_3, hf⟩ := ob hf
      refine tw_V (some (.int v_3)) (rs := [.int v_3]) (rest := []) (As := [.int x3, .int (0 : Int32)]) X I (mX4_of X.2.2.2.2.1 ev_3) lvX4_of hdX4_of ⟨Nat.le_trans (Nat.le_of_ble_eq_true rfl) hR.1, Nat.le_trans (Nat.le_of_ble_eq_true rfl) hR.2⟩ rfl hl.1 rfl (Nat.le_of_ble_eq_true rfl) rfl dX4_meanFare_24 (fun H locs cells slots I => ?_)
      refine lv_iconst (v := 3) hx hb dX4_meanFare_27 (by decide) ?_
      refine lv_icmp_eq (tgt := 34) hx hb dX4_meanFare_28 (by decide) (fun c_28 => ?_) (fun c_28 => ?_)
      · have hf := ip c_28 hf
        refine lv_iload_n hx hb dX4_meanFare_34 rfl (lv_at hl 1 rfl) ?_
        refine lv_aload_n hx hb dX4_meanFare_35 rfl (lv_at hl 0 rfl) ?_
        refine lv_iload_n hx hb dX4_meanFare_36 rfl (lv_at hl 3 rfl) ?_
        refine lv_bipush (v := 10) hx hb dX4_meanFare_37 (by decide) ?_
        obtain ⟨v_5, ev_5, hf⟩ := ob hf
        refine tw_V (some (.int v_5)) (rs := [.int v_5, .int x1]) (rest := [.int x1]) (As := [.int x3, .int (10 : Int32)]) X I (mX4_of X.2.2.2.2.1 ev_5) lvX4_of hdX4_of ⟨Nat.le_trans (Nat.le_of_ble_eq_true rfl) hR.1, Nat.le_trans (Nat.le_of_ble_eq_true rfl) hR.2⟩ rfl hl.1 rfl (Nat.le_of_ble_eq_true rfl) rfl dX4_meanFare_39 (fun H locs cells slots I => ?_)
        refine lv_iadd hx hb dX4_meanFare_42 ?_
        obtain ⟨x1_7, ex1_7, hf⟩ := ol hf
        refine nm_i ex1_7 ?_
        refine lv_istore_n (lv' := [(1, .int x1_7), (0, .ref h), (2, .int x2), (3, .int x3)]) hx hb dX4_meanFare_43 rfl hl (by decide) rfl (fun ls hl => ?_)
        obtain ⟨x2_8, ex2_8, hf⟩ := ol hf
        refine lv_iinc (v := x2_8) (lv' := [(2, .int x2_8), (1, .int x1_7), (0, .ref h), (3, .int x3)]) hx hb dX4_meanFare_44 hl (k := 2) rfl ex2_8 (by decide) rfl (fun ls hl => ?_)
        exact wX4_meanFare_47 hR X N (fX4_meanFare_11 N n) ih _ _ _ _ _ _ _ _ _ I (lv_sub hl [2, 1, 0, 3] rfl) hf
      · have hf := im c_28 hf
        refine lv_goto (tgt := 47) hx hb dX4_meanFare_31 (by decide) ?_
        exact wX4_meanFare_47 hR X N (fX4_meanFare_11 N n) ih _ _ _ _ _ _ _ _ _ I (lv_sub hl [0, 1, 2, 3] rfl) hf
theorem wX4_meanFare_0 {E : EV} {l : Launch} {p : Program} {e : Env} {s : State} {m : MethodId} {args : Array Value} {below : List Frame} {meth : Method} {c : Code} {R : Room} {h : Nat} {S : St} {res : (UInt64 × TS)} (hR : 1 ≤ R.frames ∧ 22 ≤ R.locals) (X : MX E p s m args meth c cX4_meanFare 4 (some .double) RX4 "meanFare") (N : Nat) : ∀ (σ : TS) (H : Heap) (locs : List Loc) (cells slots : Nat) (ls : Array Slot), WI E R s (twS h σ S) H locs cells slots → lv_has ls 4 [(0, .ref h)] → fX4_meanFare N σ = some res → W p l e R s m args below meth c H locs cells slots (MQ below (Qd E R.cells R.slots (some (.double res.1)) (twS h res.2 S)) args s R.cells R.slots (fr E)) (F0 m 0 ls []) := by
  intro σ H locs cells slots ls I hl hf
  obtain ⟨⟨hx, hb, hml, hown, hts⟩, -⟩ := id X
  unfold fX4_meanFare at hf
  refine lv_aload_n hx hb dX4_meanFare_0 rfl (lv_at hl 0 rfl) ?_
  refine lv_iconst (v := 0) hx hb dX4_meanFare_1 (by decide) ?_
  obtain ⟨σ_9, eσ_9, hf⟩ := ol hf
  refine tw_put X I 0 (ty := .int) (by decide) (by decide) rfl q2687 rfl rfl rfl rfl eσ_9 dX4_meanFare_2 (fun H locs I => ?_)
  refine lv_iconst (v := 0) hx hb dX4_meanFare_5 (by decide) ?_
  refine lv_istore_n (lv' := [(1, .int (0 : Int32)), (0, .ref h)]) hx hb dX4_meanFare_6 rfl hl (by decide) rfl (fun ls hl => ?_)
  refine lv_iconst (v := 0) hx hb dX4_meanFare_7 (by decide) ?_
  refine lv_istore_n (lv' := [(2, .int (0 : Int32)), (1, .int (0 : Int32)), (0, .ref h)]) hx hb dX4_meanFare_8 rfl hl (by decide) rfl (fun ls hl => ?_)
  refine lv_iconst (v := 0) hx hb dX4_meanFare_9 (by decide) ?_
  refine lv_istore_n (lv' := [(3, .int (0 : Int32)), (2, .int (0 : Int32)), (1, .int (0 : Int32)), (0, .ref h)]) hx hb dX4_meanFare_10 rfl hl (by decide) rfl (fun ls hl => ?_)
  exact wX4_meanFare_11 hR X N N _ _ _ _ _ _ _ _ _ I (lv_sub hl [3, 2, 1, 0] rfl) hf
theorem mX4_meanFare {E : EV} {l : Launch} {h : Nat} {S : St} {N : Nat} {σ : TS} {res : (UInt64 × TS)} (hE : EK E) (hf : fX4_meanFare N σ = some res) : CM E l yX4_meanFare (ws_ yX4_meanFare cX4_meanFare 4 (some .double)) 1 22 [.ref h] (twS h σ S) (some (.double res.1)) (twS h res.2 S) := by
  refine CM.of hE (by decide) rfl rfl (Nat.le_of_ble_eq_true rfl) ?_
  intro p e s m below meth c X I ls hl
  exact wX4_meanFare_0 ⟨Nat.le_refl _, Nat.le_refl _⟩ X N _ _ _ _ _ _ I hl hf
/-! sharedPart()F -/
theorem wX4_sharedPart_0 {E : EV} {l : Launch} {p : Program} {e : Env} {s : State} {m : MethodId} {args : Array Value} {below : List Frame} {meth : Method} {c : Code} {R : Room} {h : Nat} {S : St} {res : (UInt32 × TS)} (hR : 2 ≤ R.frames ∧ 45 ≤ R.locals) (X : MX E p s m args meth c cX4_sharedPart 1 (some .float) RX4 "sharedPart") (N : Nat) : ∀ (σ : TS) (H : Heap) (locs : List Loc) (cells slots : Nat) (ls : Array Slot), WI E R s (twS h σ S) H locs cells slots → lv_has ls 1 [(0, .ref h)] → fX4_sharedPart N σ = some res → W p l e R s m args below meth c H locs cells slots (MQ below (Qd E R.cells R.slots (some (.float res.1)) (twS h res.2 S)) args s R.cells R.slots (fr E)) (F0 m 0 ls []) := by
  intro σ H locs cells slots ls I hl hf
  obtain ⟨⟨hx, hb, hml, hown, hts⟩, -⟩ := id X
  unfold fX4_sharedPart at hf
  refine lv_aload_n hx hb dX4_sharedPart_0 rfl (lv_at hl 0 rfl) ?_
  refine lv_iconst (v := 0) hx hb dX4_sharedPart_1 (by decide) ?_
  obtain ⟨σ_1, eσ_1, hf⟩ := ol hf
  refine tw_put X I 0 (ty := .int) (by decide) (by decide) rfl q2687 rfl rfl rfl rfl eσ_1 dX4_sharedPart_2 (fun H locs I => ?_)
  refine lv_aload_n hx hb dX4_sharedPart_5 rfl (lv_at hl 0 rfl) ?_
  refine lv_bipush (v := 8) hx hb dX4_sharedPart_6 (by decide) ?_
  obtain ⟨v_2, ev_2, hf⟩ := ob hf
  refine tw_V (some (.int v_2)) (rs := [.int v_2]) (rest := []) (As := [.int (8 : Int32)]) X I (mX4_sumOf X.2.2.2.2.1 ev_2) lvX4_sumOf hdX4_sumOf ⟨Nat.le_trans (Nat.le_of_ble_eq_true rfl) hR.1, Nat.le_trans (Nat.le_of_ble_eq_true rfl) hR.2⟩ rfl hl.1 rfl (Nat.le_of_ble_eq_true rfl) rfl dX4_sharedPart_8 (fun H locs cells slots I => ?_)
  refine lv_if_ne (tgt := 18) hx hb dX4_sharedPart_11 (by decide) (fun c_11 => ?_) (fun c_11 => ?_)
  · have hf := im c_11 hf
    refine lv_aload_n hx hb dX4_sharedPart_18 rfl (lv_at hl 0 rfl) ?_
    refine lv_bipush (v := 9) hx hb dX4_sharedPart_19 (by decide) ?_
    obtain ⟨v_4, ev_4, hf⟩ := ob hf
    refine tw_V (some (.int v_4)) (rs := [.int v_4]) (rest := []) (As := [.int (9 : Int32)]) X I (mX4_sumOf X.2.2.2.2.1 ev_4) lvX4_sumOf hdX4_sumOf ⟨Nat.le_trans (Nat.le_of_ble_eq_true rfl) hR.1, Nat.le_trans (Nat.le_of_ble_eq_true rfl) hR.2⟩ rfl hl.1 rfl (Nat.le_of_ble_eq_true rfl) rfl dX4_sharedPart_21 (fun H locs cells slots I => ?_)
    refine lv_i2f hx hb dX4_sharedPart_24 ?_
    refine lv_aload_n hx hb dX4_sharedPart_25 rfl (lv_at hl 0 rfl) ?_
    refine lv_bipush (v := 8) hx hb dX4_sharedPart_26 (by decide) ?_
    obtain ⟨v_6, ev_6, hf⟩ := ob hf
    refine tw_V (some (.int v_6)) (rs := [.int v_6, .float (FP.i2f v_4)]) (rest := [.float (FP.i2f v_4)]) (As := [.int (8 : Int32)]) X I (mX4_sumOf X.2.2.2.2.1 ev_6) lvX4_sumOf hdX4_sumOf ⟨Nat.le_trans (Nat.le_of_ble_eq_true rfl) hR.1, Nat.le_trans (Nat.le_of_ble_eq_true rfl) hR.2⟩ rfl hl.1 rfl (Nat.le_of_ble_eq_true rfl) rfl dX4_sharedPart_28 (fun H locs cells slots I => ?_)
    refine lv_i2f hx hb dX4_sharedPart_31 ?_
    by_cases d_32 : ¬ nn32 (FP.fdiv (FP.i2f v_4) (FP.i2f v_6)) = true
    · rw [if_neg d_32] at hf; cases hf
    have c_32 := Decidable.not_not.mp d_32
    have hf := ip c_32 hf
    refine lv_fdiv hx hb dX4_sharedPart_32 (nn32_ok c_32) ?_
    cases os hf
    exact r_fret X I dX4_sharedPart_33
  · have hf := ip c_11 hf
    refine lv_fconst0 hx hb dX4_sharedPart_14 ?_
    refine lv_goto (tgt := 33) hx hb dX4_sharedPart_15 (by decide) ?_
    cases os hf
    exact r_fret X I dX4_sharedPart_33
theorem mX4_sharedPart {E : EV} {l : Launch} {h : Nat} {S : St} {N : Nat} {σ : TS} {res : (UInt32 × TS)} (hE : EK E) (hf : fX4_sharedPart N σ = some res) : CM E l yX4_sharedPart (ws_ yX4_sharedPart cX4_sharedPart 1 (some .float)) 2 45 [.ref h] (twS h σ S) (some (.float res.1)) (twS h res.2 S) := by
  refine CM.of hE (by decide) rfl rfl (Nat.le_of_ble_eq_true rfl) ?_
  intro p e s m below meth c X I ls hl
  exact wX4_sharedPart_0 ⟨Nat.le_refl _, Nat.le_refl _⟩ X N _ _ _ _ _ _ I hl hf
/-! records()V -/
theorem lvX4_records : GoodIn lw_all (wsV RX4 402 RX4 yX4_records (ws_ yX4_records cX4_records 2 none)) := lw_V q3144 q3146 qs87 q120 q3147
theorem hdX4_records : yX4_records.cls = RX4 ∧ yX4_records.cls ≠ "java/lang/invoke/MethodHandle" ∧ yX4_records.cls ≠ "java/lang/invoke/VarHandle" ∧ (parseMethodDescriptor yX4_records.desc).map (fun d => d.parameters.length) = some 0 := by decide +kernel
theorem wX4_records_54 {E : EV} {l : Launch} {p : Program} {e : Env} {s : State} {m : MethodId} {args : Array Value} {below : List Frame} {meth : Method} {c : Code} {R : Room} {h : Nat} {S : St} {res : TS} (hR : 0 ≤ R.frames ∧ 0 ≤ R.locals) (X : MX E p s m args meth c cX4_records 2 none RX4 "records") (N : Nat) : ∀ (n : Nat) (x1 : Int32) (σ : TS) (H : Heap) (locs : List Loc) (cells slots : Nat) (ls : Array Slot), WI E R s (twS h σ S) H locs cells slots → lv_has ls 2 [(0, .ref h), (1, .int x1)] → fX4_records_54 N n x1 σ = some res → W p l e R s m args below meth c H locs cells slots (MQ below (Qd E R.cells R.slots none (twS h res S)) args s R.cells R.slots (fr E)) (F0 m 54 ls []) := by
  intro n
  induction n with
  | zero => intro x1 σ H locs cells slots ls I hl hf; exact nomatch (show none = some res from hf)
  | succ n ih =>
    intro x1 σ H locs cells slots ls I hl hf
    obtain ⟨⟨hx, hb, hml, hown, hts⟩, -⟩ := id X
    rw [fX4_records_54.eq_2] at hf
    refine lv_iload_n hx hb dX4_records_54 rfl (lv_at hl 1 rfl) ?_
    refine lv_sipush (v := 581) hx hb dX4_records_55 (by decide) ?_
    refine lv_icmp_ge (tgt := 88) hx hb dX4_records_58 (by decide) (fun c_58 => ?_) (fun c_58 => ?_)
    · have hf := ip c_58 hf
      refine lv_aload_n hx hb dX4_records_88 rfl (lv_at hl 0 rfl) ?_
      refine lv_dup hx hb dX4_records_89 rfl ?_
      refine tw_get X I 6 (v := .int (σ.1 0 6)) (by decide) q2693 rfl dX4_records_90 ?_
      refine lv_iconst (v := 1) hx hb dX4_records_93 (by decide) ?_
      refine lv_iadd hx hb dX4_records_94 ?_
      obtain ⟨σ_1, eσ_1, hf⟩ := ol hf
      refine tw_put X I 6 (ty := .int) (by decide) (by decide) rfl q2693 rfl rfl rfl rfl eσ_1 dX4_records_95 (fun H locs I => ?_)
      cases os hf
      exact r_vret X I dX4_records_98
    · have hf := im c_58 hf
      refine lv_aload_n hx hb dX4_records_61 rfl (lv_at hl 0 rfl) ?_
      refine tw_get X I 4 (v := .ref (h + 4)) (by decide) q2691 rfl dX4_records_62 ?_
      refine lv_sipush (v := 581) hx hb dX4_records_65 (by decide) ?_
      refine lv_aload_n hx hb dX4_records_68 rfl (lv_at hl 0 rfl) ?_
      refine tw_get X I 6 (v := .int (σ.1 0 6)) (by decide) q2693 rfl dX4_records_69 ?_
      refine lv_imul hx hb dX4_records_72 ?_
      refine lv_iload_n hx hb dX4_records_73 rfl (lv_at hl 1 rfl) ?_
      refine lv_iadd hx hb dX4_records_74 ?_
      refine lv_aload_n hx hb dX4_records_75 rfl (lv_at hl 0 rfl) ?_
      refine tw_get X I 1 (v := .ref (h + 1)) (by decide) q2688 rfl dX4_records_76 ?_
      refine lv_iload_n hx hb dX4_records_79 rfl (lv_at hl 1 rfl) ?_
      obtain ⟨v_2, ev_2, hf⟩ := ob hf
      refine tw_ald X I 1 (by decide) (by decide) (by decide) ev_2 dX4_records_80 ?_
      obtain ⟨σ_3, eσ_3, hf⟩ := ob hf
      refine tw_ast X I 4 (by decide) (by decide) (by decide) eσ_3 dX4_records_81 (fun H locs I => ?_)
      obtain ⟨x1_4, ex1_4, hf⟩ := ol hf
      refine lv_iinc (v := x1_4) (lv' := [(1, .int x1_4), (0, .ref h)]) hx hb dX4_records_82 hl (k := 1) rfl ex1_4 (by decide) rfl (fun ls hl => ?_)
      refine lv_goto (tgt := 54) hx hb dX4_records_85 (by decide) ?_
      exact ih _ _ _ _ _ _ _ I (lv_sub hl [1, 0] rfl) hf
theorem wX4_records_52 {E : EV} {l : Launch} {p : Program} {e : Env} {s : State} {m : MethodId} {args : Array Value} {below : List Frame} {meth : Method} {c : Code} {R : Room} {h : Nat} {S : St} {res : TS} (hR : 0 ≤ R.frames ∧ 0 ≤ R.locals) (X : MX E p s m args meth c cX4_records 2 none RX4 "records") (N : Nat) : ∀ (σ : TS) (H : Heap) (locs : List Loc) (cells slots : Nat) (ls : Array Slot), WI E R s (twS h σ S) H locs cells slots → lv_has ls 2 [(0, .ref h)] → fX4_records_52 N σ = some res → W p l e R s m args below meth c H locs cells slots (MQ below (Qd E R.cells R.slots none (twS h res S)) args s R.cells R.slots (fr E)) (F0 m 52 ls []) := by
  intro σ H locs cells slots ls I hl hf
  obtain ⟨⟨hx, hb, hml, hown, hts⟩, -⟩ := id X
  unfold fX4_records_52 at hf
  refine lv_iconst (v := 0) hx hb dX4_records_52 (by decide) ?_
  refine lv_istore_n (lv' := [(1, .int (0 : Int32)), (0, .ref h)]) hx hb dX4_records_53 rfl hl (by decide) rfl (fun ls hl => ?_)
  exact wX4_records_54 hR X N N _ _ _ _ _ _ _ I (lv_sub hl [1, 0] rfl) hf
theorem wX4_records_13 {E : EV} {l : Launch} {p : Program} {e : Env} {s : State} {m : MethodId} {args : Array Value} {below : List Frame} {meth : Method} {c : Code} {R : Room} {h : Nat} {S : St} {res : TS} (hR : 0 ≤ R.frames ∧ 0 ≤ R.locals) (X : MX E p s m args meth c cX4_records 2 none RX4 "records") (N : Nat) : ∀ (n : Nat) (x1 : Int32) (σ : TS) (H : Heap) (locs : List Loc) (cells slots : Nat) (ls : Array Slot), WI E R s (twS h σ S) H locs cells slots → lv_has ls 2 [(0, .ref h), (1, .int x1)] → fX4_records_13 N n x1 σ = some res → W p l e R s m args below meth c H locs cells slots (MQ below (Qd E R.cells R.slots none (twS h res S)) args s R.cells R.slots (fr E)) (F0 m 13 ls []) := by
  intro n
  induction n with
  | zero => intro x1 σ H locs cells slots ls I hl hf; exact nomatch (show none = some res from hf)
  | succ n ih =>
    intro x1 σ H locs cells slots ls I hl hf
    obtain ⟨⟨hx, hb, hml, hown, hts⟩, -⟩ := id X
    rw [fX4_records_13.eq_2] at hf
    refine lv_iload_n hx hb dX4_records_13 rfl (lv_at hl 1 rfl) ?_
    refine lv_sipush (v := 5810) hx hb dX4_records_14 (by decide) ?_
    refine lv_icmp_ge (tgt := 42) hx hb dX4_records_17 (by decide) (fun c_17 => ?_) (fun c_17 => ?_)
    · have hf := ip c_17 hf
      refine lv_aload_n hx hb dX4_records_42 rfl (lv_at hl 0 rfl) ?_
      refine lv_dup hx hb dX4_records_43 rfl ?_
      refine tw_get X I 6 (v := .int (σ.1 0 6)) (by decide) q2693 rfl dX4_records_44 ?_
      refine lv_iconst (v := 1) hx hb dX4_records_47 (by decide) ?_
      refine lv_isub hx hb dX4_records_48 ?_
      obtain ⟨σ_5, eσ_5, hf⟩ := ol hf
      refine tw_put X I 6 (ty := .int) (by decide) (by decide) rfl q2693 rfl rfl rfl rfl eσ_5 dX4_records_49 (fun H locs I => ?_)
      exact wX4_records_52 hR X N _ _ _ _ _ _ I (lv_sub hl [0] rfl) hf
    · have hf := im c_17 hf
      refine lv_aload_n hx hb dX4_records_20 rfl (lv_at hl 0 rfl) ?_
      refine tw_get X I 4 (v := .ref (h + 4)) (by decide) q2691 rfl dX4_records_21 ?_
      refine lv_iload_n hx hb dX4_records_24 rfl (lv_at hl 1 rfl) ?_
      refine lv_sipush (v := 581) hx hb dX4_records_25 (by decide) ?_
      refine lv_isub hx hb dX4_records_28 ?_
      refine lv_aload_n hx hb dX4_records_29 rfl (lv_at hl 0 rfl) ?_
      refine tw_get X I 4 (v := .ref (h + 4)) (by decide) q2691 rfl dX4_records_30 ?_
      refine lv_iload_n hx hb dX4_records_33 rfl (lv_at hl 1 rfl) ?_
      obtain ⟨v_6, ev_6, hf⟩ := ob hf
      refine tw_ald X I 4 (by decide) (by decide) (by decide) ev_6 dX4_records_34 ?_
      obtain ⟨σ_7, eσ_7, hf⟩ := ob hf
      refine tw_ast X I 4 (by decide) (by decide) (by decide) eσ_7 dX4_records_35 (fun H locs I => ?_)
      obtain ⟨x1_8, ex1_8, hf⟩ := ol hf
      refine lv_iinc (v := x1_8) (lv' := [(1, .int x1_8), (0, .ref h)]) hx hb dX4_records_36 hl (k := 1) rfl ex1_8 (by decide) rfl (fun ls hl => ?_)
      refine lv_goto (tgt := 13) hx hb dX4_records_39 (by decide) ?_
      exact ih _ _ _ _ _ _ _ I (lv_sub hl [1, 0] rfl) hf
theorem wX4_records_0 {E : EV} {l : Launch} {p : Program} {e : Env} {s : State} {m : MethodId} {args : Array Value} {below : List Frame} {meth : Method} {c : Code} {R : Room} {h : Nat} {S : St} {res : TS} (hR : 0 ≤ R.frames ∧ 0 ≤ R.locals) (X : MX E p s m args meth c cX4_records 2 none RX4 "records") (N : Nat) : ∀ (σ : TS) (H : Heap) (locs : List Loc) (cells slots : Nat) (ls : Array Slot), WI E R s (twS h σ S) H locs cells slots → lv_has ls 2 [(0, .ref h)] → fX4_records N σ = some res → W p l e R s m args below meth c H locs cells slots (MQ below (Qd E R.cells R.slots none (twS h res S)) args s R.cells R.slots (fr E)) (F0 m 0 ls []) := by
  intro σ H locs cells slots ls I hl hf
  obtain ⟨⟨hx, hb, hml, hown, hts⟩, -⟩ := id X
  unfold fX4_records at hf
  refine lv_aload_n hx hb dX4_records_0 rfl (lv_at hl 0 rfl) ?_
  refine tw_get X I 6 (v := .int (σ.1 0 6)) (by decide) q2693 rfl dX4_records_1 ?_
  refine lv_bipush (v := 10) hx hb dX4_records_4 (by decide) ?_
  refine lv_icmp_ne (tgt := 52) hx hb dX4_records_6 (by decide) (fun c_6 => ?_) (fun c_6 => ?_)
  · have hf := im c_6 hf
    exact wX4_records_52 hR X N _ _ _ _ _ _ I (lv_sub hl [0] rfl) hf
  · have hf := ip c_6 hf
    refine lv_sipush (v := 581) hx hb dX4_records_9 (by decide) ?_
    refine lv_istore_n (lv' := [(1, .int (581 : Int32)), (0, .ref h)]) hx hb dX4_records_12 rfl hl (by decide) rfl (fun ls hl => ?_)
    exact wX4_records_13 hR X N N _ _ _ _ _ _ _ I (lv_sub hl [1, 0] rfl) hf
theorem mX4_records {E : EV} {l : Launch} {h : Nat} {S : St} {N : Nat} {σ : TS} {res : TS} (hE : EK E) (hf : fX4_records N σ = some res) : CM E l yX4_records (ws_ yX4_records cX4_records 2 none) 0 0 [.ref h] (twS h σ S) none (twS h res S) := by
  refine CM.of hE (by decide) rfl rfl (Nat.le_of_ble_eq_true rfl) ?_
  intro p e s m below meth c X I ls hl
  exact wX4_records_0 ⟨Nat.le_refl _, Nat.le_refl _⟩ X N _ _ _ _ _ _ I hl hf
/-! sets(III)V -/
theorem lvX4_sets : GoodIn lw_all (wsV RX4 346 RX4 yX4_sets (ws_ yX4_sets cX4_sets 4 none)) := lw_V q3148 q3150 qs88 q120 q3151
theorem hdX4_sets : yX4_sets.cls = RX4 ∧ yX4_sets.cls ≠ "java/lang/invoke/MethodHandle" ∧ yX4_sets.cls ≠ "java/lang/invoke/VarHandle" ∧ (parseMethodDescriptor yX4_sets.desc).map (fun d => d.parameters.length) = some 3 := by decide +kernel
theorem wX4_sets_0 {E : EV} {l : Launch} {p : Program} {e : Env} {s : State} {m : MethodId} {args : Array Value} {below : List Frame} {meth : Method} {c : Code} {R : Room} {h : Nat} {S : St} {res : TS} (hR : 0 ≤ R.frames ∧ 0 ≤ R.locals) (X : MX E p s m args meth c cX4_sets 4 none RX4 "sets") : ∀ (x1 : Int32) (x2 : Int32) (x3 : Int32) (σ : TS) (H : Heap) (locs : List Loc) (cells slots : Nat) (ls : Array Slot), WI E R s (twS h σ S) H locs cells slots → lv_has ls 4 [(0, .ref h), (1, .int x1), (2, .int x2), (3, .int x3)] → fX4_sets σ x1 x2 x3 = some res → W p l e R s m args below meth c H locs cells slots (MQ below (Qd E R.cells R.slots none (twS h res S)) args s R.cells R.slots (fr E)) (F0 m 0 ls []) := by
  intro x1 x2 x3 σ H locs cells slots ls I hl hf
  obtain ⟨⟨hx, hb, hml, hown, hts⟩, -⟩ := id X
  unfold fX4_sets at hf
  refine lv_aload_n hx hb dX4_sets_0 rfl (lv_at hl 0 rfl) ?_
  refine tw_get X I 1 (v := .ref (h + 1)) (by decide) q2688 rfl dX4_sets_1 ?_
  refine lv_sipush (v := 173) hx hb dX4_sets_4 (by decide) ?_
  refine lv_bipush (v := 17) hx hb dX4_sets_7 (by decide) ?_
  refine lv_iload_n hx hb dX4_sets_9 rfl (lv_at hl 1 rfl) ?_
  refine lv_imul hx hb dX4_sets_10 ?_
  refine lv_iadd hx hb dX4_sets_11 ?_
  refine lv_iload_n hx hb dX4_sets_12 rfl (lv_at hl 2 rfl) ?_
  refine lv_iadd hx hb dX4_sets_13 ?_
  refine lv_iload_n hx hb dX4_sets_14 rfl (lv_at hl 3 rfl) ?_
  obtain ⟨σ_1, eσ_1, hf⟩ := ob hf
  refine tw_ast X I 1 (by decide) (by decide) (by decide) eσ_1 dX4_sets_15 (fun H locs I => ?_)
  cases os hf
  exact r_vret X I dX4_sets_16
theorem mX4_sets {E : EV} {l : Launch} {h : Nat} {S : St} {σ : TS} {x1 : Int32} {x2 : Int32} {x3 : Int32} {res : TS} (hE : EK E) (hf : fX4_sets σ x1 x2 x3 = some res) : CM E l yX4_sets (ws_ yX4_sets cX4_sets 4 none) 0 0 [.ref h, .int x1, .int x2, .int x3] (twS h σ S) none (twS h res S) := by
  refine CM.of hE (by decide) rfl rfl (Nat.le_of_ble_eq_true rfl) ?_
  intro p e s m below meth c X I ls hl
  exact wX4_sets_0 ⟨Nat.le_refl _, Nat.le_refl _⟩ X _ _ _ _ _ _ _ _ _ I hl hf
/-! offers(I)V -/
theorem lvX4_offers : GoodIn lw_all (wsV RX4 405 RX4 yX4_offers (ws_ yX4_offers cX4_offers 4 none)) := lw_V q3152 q3154 qs89 q120 q3155
theorem hdX4_offers : yX4_offers.cls = RX4 ∧ yX4_offers.cls ≠ "java/lang/invoke/MethodHandle" ∧ yX4_offers.cls ≠ "java/lang/invoke/VarHandle" ∧ (parseMethodDescriptor yX4_offers.desc).map (fun d => d.parameters.length) = some 1 := by decide +kernel
theorem wX4_offers_151 {E : EV} {l : Launch} {p : Program} {e : Env} {s : State} {m : MethodId} {args : Array Value} {below : List Frame} {meth : Method} {c : Code} {R : Room} {h : Nat} {S : St} {res : TS} (hR : 5 ≤ R.frames ∧ 125 ≤ R.locals) (X : MX E p s m args meth c cX4_offers 4 none RX4 "offers") (N : Nat) (r9 : Int32 → Int32 → TS → Option TS) (hr9 : ∀ (x1 : Int32) (x2 : Int32) (σ : TS) (H : Heap) (locs : List Loc) (cells slots : Nat) (ls : Array Slot), WI E R s (twS h σ S) H locs cells slots → lv_has ls 4 [(0, .ref h), (1, .int x1), (2, .int x2)] → r9 x1 x2 σ = some res → W p l e R s m args below meth c H locs cells slots (MQ below (Qd E R.cells R.slots none (twS h res S)) args s R.cells R.slots (fr E)) (F0 m 9 ls [])) : ∀ (x1 : Int32) (x2 : Int32) (σ : TS) (H : Heap) (locs : List Loc) (cells slots : Nat) (ls : Array Slot), WI E R s (twS h σ S) H locs cells slots → lv_has ls 4 [(0, .ref h), (1, .int x1), (2, .int x2)] → fX4_offers_151 N r9 x1 x2 σ = some res → W p l e R s m args below meth c H locs cells slots (MQ below (Qd E R.cells R.slots none (twS h res S)) args s R.cells R.slots (fr E)) (F0 m 151 ls []) := by
  intro x1 x2 σ H locs cells slots ls I hl hf
  obtain ⟨⟨hx, hb, hml, hown, hts⟩, -⟩ := id X
  unfold fX4_offers_151 at hf
  obtain ⟨x2_1, ex2_1, hf⟩ := ol hf
  refine lv_iinc (v := x2_1) (lv' := [(2, .int x2_1), (0, .ref h), (1, .int x1)]) hx hb dX4_offers_151 hl (k := 2) rfl ex2_1 (by decide) rfl (fun ls hl => ?_)
  refine lv_goto (tgt := 9) hx hb dX4_offers_154 (by decide) ?_
  exact hr9 _ _ _ _ _ _ _ _ I (lv_sub hl [1, 2, 0] rfl) hf
theorem wX4_offers_103 {E : EV} {l : Launch} {p : Program} {e : Env} {s : State} {m : MethodId} {args : Array Value} {below : List Frame} {meth : Method} {c : Code} {R : Room} {h : Nat} {S : St} {res : TS} (hR : 5 ≤ R.frames ∧ 125 ≤ R.locals) (X : MX E p s m args meth c cX4_offers 4 none RX4 "offers") (N : Nat) (r9 : Int32 → Int32 → TS → Option TS) (hr9 : ∀ (x1 : Int32) (x2 : Int32) (σ : TS) (H : Heap) (locs : List Loc) (cells slots : Nat) (ls : Array Slot), WI E R s (twS h σ S) H locs cells slots → lv_has ls 4 [(0, .ref h), (1, .int x1), (2, .int x2)] → r9 x1 x2 σ = some res → W p l e R s m args below meth c H locs cells slots (MQ below (Qd E R.cells R.slots none (twS h res S)) args s R.cells R.slots (fr E)) (F0 m 9 ls [])) : ∀ (x1 : Int32) (x2 : Int32) (σ : TS) (H : Heap) (locs : List Loc) (cells slots : Nat) (ls : Array Slot), WI E R s (twS h σ S) H locs cells slots → lv_has ls 4 [(0, .ref h), (1, .int x1), (2, .int x2)] → fX4_offers_103 N r9 x1 x2 σ = some res → W p l e R s m args below meth c H locs cells slots (MQ below (Qd E R.cells R.slots none (twS h res S)) args s R.cells R.slots (fr E)) (F0 m 103 ls []) := by
  intro x1 x2 σ H locs cells slots ls I hl hf
  obtain ⟨⟨hx, hb, hml, hown, hts⟩, -⟩ := id X
  unfold fX4_offers_103 at hf
  refine lv_aload_n hx hb dX4_offers_103 rfl (lv_at hl 0 rfl) ?_
  refine lv_iload_n hx hb dX4_offers_104 rfl (lv_at hl 1 rfl) ?_
  refine lv_iconst (v := 0) hx hb dX4_offers_105 (by decide) ?_
  refine lv_iconst (v := 0) hx hb dX4_offers_106 (by decide) ?_
  obtain ⟨σ_3, eσ_3, hf⟩ := ob hf
  refine tw_V none (rs := []) (rest := []) (As := [.int x1, .int (0 : Int32), .int (0 : Int32)]) X I (mX4_sets X.2.2.2.2.1 eσ_3) lvX4_sets hdX4_sets ⟨Nat.le_trans (Nat.le_of_ble_eq_true rfl) hR.1, Nat.le_trans (Nat.le_of_ble_eq_true rfl) hR.2⟩ rfl hl.1 rfl (Nat.le_of_ble_eq_true rfl) rfl dX4_offers_107 (fun H locs cells slots I => ?_)
  refine lv_aload_n hx hb dX4_offers_110 rfl (lv_at hl 0 rfl) ?_
  refine lv_iload_n hx hb dX4_offers_111 rfl (lv_at hl 1 rfl) ?_
  refine lv_bipush (v := 12) hx hb dX4_offers_112 (by decide) ?_
  refine lv_iload_n hx hb dX4_offers_114 rfl (lv_at hl 2 rfl) ?_
  obtain ⟨σ_5, eσ_5, hf⟩ := ob hf
  refine tw_V none (rs := []) (rest := []) (As := [.int x1, .int (12 : Int32), .int x2]) X I (mX4_sets X.2.2.2.2.1 eσ_5) lvX4_sets hdX4_sets ⟨Nat.le_trans (Nat.le_of_ble_eq_true rfl) hR.1, Nat.le_trans (Nat.le_of_ble_eq_true rfl) hR.2⟩ rfl hl.1 rfl (Nat.le_of_ble_eq_true rfl) rfl dX4_offers_115 (fun H locs cells slots I => ?_)
  refine lv_aload_n hx hb dX4_offers_118 rfl (lv_at hl 0 rfl) ?_
  refine lv_iload_n hx hb dX4_offers_119 rfl (lv_at hl 1 rfl) ?_
  refine lv_bipush (v := 13) hx hb dX4_offers_120 (by decide) ?_
  refine lv_aload_n hx hb dX4_offers_122 rfl (lv_at hl 0 rfl) ?_
  refine tw_get X I 40 (v := .int (σ_5.1 0 40)) (by decide) q2727 rfl dX4_offers_123 ?_
  obtain ⟨σ_7, eσ_7, hf⟩ := ob hf
  refine tw_V none (rs := []) (rest := []) (As := [.int x1, .int (13 : Int32), .int (σ_5.1 0 40)]) X I (mX4_sets X.2.2.2.2.1 eσ_7) lvX4_sets hdX4_sets ⟨Nat.le_trans (Nat.le_of_ble_eq_true rfl) hR.1, Nat.le_trans (Nat.le_of_ble_eq_true rfl) hR.2⟩ rfl hl.1 rfl (Nat.le_of_ble_eq_true rfl) rfl dX4_offers_126 (fun H locs cells slots I => ?_)
  refine lv_aload_n hx hb dX4_offers_129 rfl (lv_at hl 0 rfl) ?_
  refine lv_iload_n hx hb dX4_offers_130 rfl (lv_at hl 1 rfl) ?_
  refine lv_bipush (v := 14) hx hb dX4_offers_131 (by decide) ?_
  refine lv_aload_n hx hb dX4_offers_133 rfl (lv_at hl 0 rfl) ?_
  refine tw_get X I 41 (v := .int (σ_7.1 0 41)) (by decide) q2728 rfl dX4_offers_134 ?_
  obtain ⟨σ_9, eσ_9, hf⟩ := ob hf
  refine tw_V none (rs := []) (rest := []) (As := [.int x1, .int (14 : Int32), .int (σ_7.1 0 41)]) X I (mX4_sets X.2.2.2.2.1 eσ_9) lvX4_sets hdX4_sets ⟨Nat.le_trans (Nat.le_of_ble_eq_true rfl) hR.1, Nat.le_trans (Nat.le_of_ble_eq_true rfl) hR.2⟩ rfl hl.1 rfl (Nat.le_of_ble_eq_true rfl) rfl dX4_offers_137 (fun H locs cells slots I => ?_)
  refine lv_aload_n hx hb dX4_offers_140 rfl (lv_at hl 0 rfl) ?_
  refine lv_iload_n hx hb dX4_offers_141 rfl (lv_at hl 1 rfl) ?_
  refine lv_bipush (v := 15) hx hb dX4_offers_142 (by decide) ?_
  refine lv_aload_n hx hb dX4_offers_144 rfl (lv_at hl 0 rfl) ?_
  refine tw_get X I 42 (v := .int (σ_9.1 0 42)) (by decide) q2729 rfl dX4_offers_145 ?_
  obtain ⟨σ_11, eσ_11, hf⟩ := ob hf
  refine tw_V none (rs := []) (rest := []) (As := [.int x1, .int (15 : Int32), .int (σ_9.1 0 42)]) X I (mX4_sets X.2.2.2.2.1 eσ_11) lvX4_sets hdX4_sets ⟨Nat.le_trans (Nat.le_of_ble_eq_true rfl) hR.1, Nat.le_trans (Nat.le_of_ble_eq_true rfl) hR.2⟩ rfl hl.1 rfl (Nat.le_of_ble_eq_true rfl) rfl dX4_offers_148 (fun H locs cells slots I => ?_)
  exact wX4_offers_151 hR X N r9 hr9 _ _ _ _ _ _ _ _ I (lv_sub hl [0, 1, 2] rfl) hf
theorem wX4_offers_32 {E : EV} {l : Launch} {p : Program} {e : Env} {s : State} {m : MethodId} {args : Array Value} {below : List Frame} {meth : Method} {c : Code} {R : Room} {h : Nat} {S : St} {res : TS} (hR : 5 ≤ R.frames ∧ 125 ≤ R.locals) (X : MX E p s m args meth c cX4_offers 4 none RX4 "offers") (N : Nat) (r9 : Int32 → Int32 → TS → Option TS) (hr9 : ∀ (x1 : Int32) (x2 : Int32) (σ : TS) (H : Heap) (locs : List Loc) (cells slots : Nat) (ls : Array Slot), WI E R s (twS h σ S) H locs cells slots → lv_has ls 4 [(0, .ref h), (1, .int x1), (2, .int x2)] → r9 x1 x2 σ = some res → W p l e R s m args below meth c H locs cells slots (MQ below (Qd E R.cells R.slots none (twS h res S)) args s R.cells R.slots (fr E)) (F0 m 9 ls [])) : ∀ (x1 : Int32) (x2 : Int32) (y0 : Int32) (σ : TS) (H : Heap) (locs : List Loc) (cells slots : Nat) (ls : Array Slot), WI E R s (twS h σ S) H locs cells slots → lv_has ls 4 [(0, .ref h), (1, .int x1), (2, .int x2)] → fX4_offers_32 N r9 x1 x2 y0 σ = some res → W p l e R s m args below meth c H locs cells slots (MQ below (Qd E R.cells R.slots none (twS h res S)) args s R.cells R.slots (fr E)) (F0 m 32 ls [.int y0]) := by
  intro x1 x2 y0 σ H locs cells slots ls I hl hf
  obtain ⟨⟨hx, hb, hml, hown, hts⟩, -⟩ := id X
  unfold fX4_offers_32 at hf
  refine lv_istore_n (lv' := [(3, .int y0), (0, .ref h), (1, .int x1), (2, .int x2)]) hx hb dX4_offers_32 rfl hl (by decide) rfl (fun ls hl => ?_)
  refine lv_aload_n hx hb dX4_offers_33 rfl (lv_at hl 1 rfl) ?_
  refine lv_iload_n hx hb dX4_offers_34 rfl (lv_at hl 2 rfl) ?_
  obtain ⟨v_12, ev_12, hf⟩ := ob hf
  refine tw_V (some (.int v_12)) (rs := [.int v_12]) (rest := []) (As := [.int x1]) X I (mX4_directOf X.2.2.2.2.1 ev_12) lvX4_directOf hdX4_directOf ⟨Nat.le_trans (Nat.le_of_ble_eq_true rfl) hR.1, Nat.le_trans (Nat.le_of_ble_eq_true rfl) hR.2⟩ rfl hl.1 rfl (Nat.le_of_ble_eq_true rfl) rfl dX4_offers_35 (fun H locs cells slots I => ?_)
  refine lv_iconst (v := (-1)) hx hb dX4_offers_38 (by decide) ?_
  refine lv_icmp_eq (tgt := 151) hx hb dX4_offers_39 (by decide) (fun c_39 => ?_) (fun c_39 => ?_)
  · have hf := ip c_39 hf
    exact wX4_offers_151 hR X N r9 hr9 _ _ _ _ _ _ _ _ I (lv_sub hl [1, 2, 3] rfl) hf
  · have hf := im c_39 hf
    refine lv_aload_n hx hb dX4_offers_42 rfl (lv_at hl 1 rfl) ?_
    refine lv_iload_n hx hb dX4_offers_43 rfl (lv_at hl 3 rfl) ?_
    refine lv_iload_n hx hb dX4_offers_44 rfl (lv_at hl 2 rfl) ?_
    obtain ⟨v_14, ev_14, hf⟩ := ob hf
    refine tw_V (some (.int v_14.1)) (rs := [.int v_14.1]) (rest := []) (As := [.int x2, .int x1]) X I (mX4_findsBest X.2.2.2.2.1 ev_14) lvX4_findsBest hdX4_findsBest ⟨Nat.le_trans (Nat.le_of_ble_eq_true rfl) hR.1, Nat.le_trans (Nat.le_of_ble_eq_true rfl) hR.2⟩ rfl hl.1 rfl (Nat.le_of_ble_eq_true rfl) rfl dX4_offers_45 (fun H locs cells slots I => ?_)
    refine lv_if_ne (tgt := 54) hx hb dX4_offers_48 (by decide) (fun c_48 => ?_) (fun c_48 => ?_)
    · have hf := im c_48 hf
      refine lv_iload_n hx hb dX4_offers_54 rfl (lv_at hl 0 rfl) ?_
      refine lv_if_ne (tgt := 103) hx hb dX4_offers_55 (by decide) (fun c_55 => ?_) (fun c_55 => ?_)
      · have hf := im c_55 hf
        exact wX4_offers_103 hR X N r9 hr9 _ _ _ _ _ _ _ _ I (lv_sub hl [1, 2, 3] rfl) hf
      · have hf := ip c_55 hf
        refine lv_aload_n hx hb dX4_offers_58 rfl (lv_at hl 1 rfl) ?_
        refine tw_get X I 40 (v := .int (v_14.2.1 0 40)) (by decide) q2727 rfl dX4_offers_59 ?_
        refine lv_aload_n hx hb dX4_offers_62 rfl (lv_at hl 1 rfl) ?_
        refine lv_iload_n hx hb dX4_offers_63 rfl (lv_at hl 2 rfl) ?_
        refine lv_bipush (v := 13) hx hb dX4_offers_64 (by decide) ?_
        obtain ⟨v_16, ev_16, hf⟩ := ob hf
        refine tw_V (some (.int v_16)) (rs := [.int v_16, .int (v_14.2.1 0 40)]) (rest := [.int (v_14.2.1 0 40)]) (As := [.int x1, .int (13 : Int32)]) X I (mX4_of X.2.2.2.2.1 ev_16) lvX4_of hdX4_of ⟨Nat.le_trans (Nat.le_of_ble_eq_true rfl) hR.1, Nat.le_trans (Nat.le_of_ble_eq_true rfl) hR.2⟩ rfl hl.1 rfl (Nat.le_of_ble_eq_true rfl) rfl dX4_offers_66 (fun H locs cells slots I => ?_)
        refine lv_icmp_gt (tgt := 151) hx hb dX4_offers_69 (by decide) (fun c_69 => ?_) (fun c_69 => ?_)
        · have hf := ip c_69 hf
          exact wX4_offers_151 hR X N r9 hr9 _ _ _ _ _ _ _ _ I (lv_sub hl [1, 2, 3] rfl) hf
        · have hf := im c_69 hf
          refine lv_aload_n hx hb dX4_offers_72 rfl (lv_at hl 1 rfl) ?_
          refine tw_get X I 40 (v := .int (v_14.2.1 0 40)) (by decide) q2727 rfl dX4_offers_73 ?_
          refine lv_aload_n hx hb dX4_offers_76 rfl (lv_at hl 1 rfl) ?_
          refine lv_iload_n hx hb dX4_offers_77 rfl (lv_at hl 2 rfl) ?_
          refine lv_bipush (v := 13) hx hb dX4_offers_78 (by decide) ?_
          obtain ⟨v_18, ev_18, hf⟩ := ob hf
          refine tw_V (some (.int v_18)) (rs := [.int v_18, .int (v_14.2.1 0 40)]) (rest := [.int (v_14.2.1 0 40)]) (As := [.int x1, .int (13 : Int32)]) X I (mX4_of X.2.2.2.2.1 ev_18) lvX4_of hdX4_of ⟨Nat.le_trans (Nat.le_of_ble_eq_true rfl) hR.1, Nat.le_trans (Nat.le_of_ble_eq_true rfl) hR.2⟩ rfl hl.1 rfl (Nat.le_of_ble_eq_true rfl) rfl dX4_offers_80 (fun H locs cells slots I => ?_)
          refine lv_icmp_ne (tgt := 103) hx hb dX4_offers_83 (by decide) (fun c_83 => ?_) (fun c_83 => ?_)
          · have hf := im c_83 hf
            exact wX4_offers_103 hR X N r9 hr9 _ _ _ _ _ _ _ _ I (lv_sub hl [1, 2, 3] rfl) hf
          · have hf := ip c_83 hf
            refine lv_aload_n hx hb dX4_offers_86 rfl (lv_at hl 1 rfl) ?_
            refine tw_get X I 41 (v := .int (v_14.2.1 0 41)) (by decide) q2728 rfl dX4_offers_87 ?_
            refine lv_aload_n hx hb dX4_offers_90 rfl (lv_at hl 1 rfl) ?_
            refine lv_iload_n hx hb dX4_offers_91 rfl (lv_at hl 2 rfl) ?_
            refine lv_bipush (v := 14) hx hb dX4_offers_92 (by decide) ?_
            obtain ⟨v_20, ev_20, hf⟩ := ob hf
            refine tw_V (some (.int v_20)) (rs := [.int v_20, .int (v_14.2.1 0 41)]) (rest := [.int (v_14.2.1 0 41)]) (As := [.int x1, .int (14 : Int32)]) X I (mX4_of X.2.2.2.2.1 ev_20) lvX4_of hdX4_of ⟨Nat.le_trans (Nat.le_of_ble_eq_true rfl) hR.1, Nat.le_trans (Nat.le_of_ble_eq_true rfl) hR.2⟩ rfl hl.1 rfl (Nat.le_of_ble_eq_true rfl) rfl dX4_offers_94 (fun H locs cells slots I => ?_)
            refine lv_icmp_lt (tgt := 103) hx hb dX4_offers_97 (by decide) (fun c_97 => ?_) (fun c_97 => ?_)
            · have hf := ip c_97 hf
              exact wX4_offers_103 hR X N r9 hr9 _ _ _ _ _ _ _ _ I (lv_sub hl [1, 2, 3] rfl) hf
            · have hf := im c_97 hf
              refine lv_goto (tgt := 151) hx hb dX4_offers_100 (by decide) ?_
              exact wX4_offers_151 hR X N r9 hr9 _ _ _ _ _ _ _ _ I (lv_sub hl [1, 2, 3] rfl) hf
    · have hf := ip c_48 hf
      refine lv_goto (tgt := 151) hx hb dX4_offers_51 (by decide) ?_
      exact wX4_offers_151 hR X N r9 hr9 _ _ _ _ _ _ _ _ I (lv_sub hl [1, 2, 3] rfl) hf
theorem wX4_offers_9 {E : EV} {l : Launch} {p : Program} {e : Env} {s : State} {m : MethodId} {args : Array Value} {below : List Frame} {meth : Method} {c : Code} {R : Room} {h : Nat} {S : St} {res : TS} (hR : 5 ≤ R.frames ∧ 125 ≤ R.locals) (X : MX E p s m args meth c cX4_offers 4 none RX4 "offers") (N : Nat) : ∀ (n : Nat) (x1 : Int32) (x2 : Int32) (σ : TS) (H : Heap) (locs : List Loc) (cells slots : Nat) (ls : Array Slot), WI E R s (twS h σ S) H locs cells slots → lv_has ls 4 [(0, .ref h), (1, .int x1), (2, .int x2)] → fX4_offers_9 N n x1 x2 σ = some res → W p l e R s m args below meth c H locs cells slots (MQ below (Qd E R.cells R.slots none (twS h res S)) args s R.cells R.slots (fr E)) (F0 m 9 ls []) := by
  intro n
  induction n with
  | zero => intro x1 x2 σ H locs cells slots ls I hl hf; exact nomatch (show none = some res from hf)
  | succ n ih =>
    intro x1 x2 σ H locs cells slots ls I hl hf
    obtain ⟨⟨hx, hb, hml, hown, hts⟩, -⟩ := id X
    rw [fX4_offers_9.eq_2] at hf
    refine lv_iload_n hx hb dX4_offers_9 rfl (lv_at hl 2 rfl) ?_
    refine lv_aload_n hx hb dX4_offers_10 rfl (lv_at hl 0 rfl) ?_
    refine tw_get X I 17 (v := .int (σ.1 0 17)) (by decide) q2704 rfl dX4_offers_11 ?_
    refine lv_icmp_ge (tgt := 157) hx hb dX4_offers_14 (by decide) (fun c_14 => ?_) (fun c_14 => ?_)
    · have hf := ip c_14 hf
      refine lv_aload_n hx hb dX4_offers_157 rfl (lv_at hl 0 rfl) ?_
      refine lv_iload_n hx hb dX4_offers_158 rfl (lv_at hl 1 rfl) ?_
      refine lv_bipush (v := 16) hx hb dX4_offers_159 (by decide) ?_
      refine lv_aload_n hx hb dX4_offers_161 rfl (lv_at hl 0 rfl) ?_
      refine tw_get X I 1 (v := .ref (h + 1)) (by decide) q2688 rfl dX4_offers_162 ?_
      refine lv_iconst (v := 0) hx hb dX4_offers_165 (by decide) ?_
      obtain ⟨v_22, ev_22, hf⟩ := ob hf
      refine tw_ald X I 1 (by decide) (by decide) (by decide) ev_22 dX4_offers_166 ?_
      refine lv_aload_n hx hb dX4_offers_167 rfl (lv_at hl 0 rfl) ?_
      refine lv_iconst (v := 2) hx hb dX4_offers_168 (by decide) ?_
      obtain ⟨v_23, ev_23, hf⟩ := ob hf
      refine tw_V (some (.int v_23)) (rs := [.int v_23, .int v_22, .int (16 : Int32), .int x1, .ref h]) (rest := [.int v_22, .int (16 : Int32), .int x1, .ref h]) (As := [.int (2 : Int32)]) X I (mX4_ruled X.2.2.2.2.1 ev_23) lvX4_ruled hdX4_ruled ⟨Nat.le_trans (Nat.le_of_ble_eq_true rfl) hR.1, Nat.le_trans (Nat.le_of_ble_eq_true rfl) hR.2⟩ rfl hl.1 rfl (Nat.le_of_ble_eq_true rfl) rfl dX4_offers_169 (fun H locs cells slots I => ?_)
      refine lv_iadd hx hb dX4_offers_172 ?_
      obtain ⟨σ_26, eσ_26, hf⟩ := ob hf
      refine tw_V none (rs := []) (rest := []) (As := [.int x1, .int (16 : Int32), .int (v_22 + v_23)]) X I (mX4_sets X.2.2.2.2.1 eσ_26) lvX4_sets hdX4_sets ⟨Nat.le_trans (Nat.le_of_ble_eq_true rfl) hR.1, Nat.le_trans (Nat.le_of_ble_eq_true rfl) hR.2⟩ rfl hl.1 rfl (Nat.le_of_ble_eq_true rfl) rfl dX4_offers_173 (fun H locs cells slots I => ?_)
      cases os hf
      exact r_vret X I dX4_offers_176
    · have hf := im c_14 hf
      refine lv_aload_n hx hb dX4_offers_17 rfl (lv_at hl 0 rfl) ?_
      refine lv_iload_n hx hb dX4_offers_18 rfl (lv_at hl 1 rfl) ?_
      refine lv_iconst (v := 0) hx hb dX4_offers_19 (by decide) ?_
      obtain ⟨v_27, ev_27, hf⟩ := ob hf
      refine tw_V (some (.int v_27)) (rs := [.int v_27]) (rest := []) (As := [.int x1, .int (0 : Int32)]) X I (mX4_of X.2.2.2.2.1 ev_27) lvX4_of hdX4_of ⟨Nat.le_trans (Nat.le_of_ble_eq_true rfl) hR.1, Nat.le_trans (Nat.le_of_ble_eq_true rfl) hR.2⟩ rfl hl.1 rfl (Nat.le_of_ble_eq_true rfl) rfl dX4_offers_20 (fun H locs cells slots I => ?_)
      refine lv_iconst (v := 4) hx hb dX4_offers_23 (by decide) ?_
      refine lv_icmp_ne (tgt := 31) hx hb dX4_offers_24 (by decide) (fun c_24 => ?_) (fun c_24 => ?_)
      · have hf := im c_24 hf
        refine lv_iconst (v := 0) hx hb dX4_offers_31 (by decide) ?_
        exact wX4_offers_32 hR X N (fX4_offers_9 N n) ih _ _ _ _ _ _ _ _ _ I (lv_sub hl [0, 1, 2] rfl) hf
      · have hf := ip c_24 hf
        refine lv_iconst (v := 1) hx hb dX4_offers_27 (by decide) ?_
        refine lv_goto (tgt := 32) hx hb dX4_offers_28 (by decide) ?_
        exact wX4_offers_32 hR X N (fX4_offers_9 N n) ih _ _ _ _ _ _ _ _ _ I (lv_sub hl [0, 1, 2] rfl) hf
theorem wX4_offers_0 {E : EV} {l : Launch} {p : Program} {e : Env} {s : State} {m : MethodId} {args : Array Value} {below : List Frame} {meth : Method} {c : Code} {R : Room} {h : Nat} {S : St} {res : TS} (hR : 5 ≤ R.frames ∧ 125 ≤ R.locals) (X : MX E p s m args meth c cX4_offers 4 none RX4 "offers") (N : Nat) : ∀ (x1 : Int32) (σ : TS) (H : Heap) (locs : List Loc) (cells slots : Nat) (ls : Array Slot), WI E R s (twS h σ S) H locs cells slots → lv_has ls 4 [(0, .ref h), (1, .int x1)] → fX4_offers N σ x1 = some res → W p l e R s m args below meth c H locs cells slots (MQ below (Qd E R.cells R.slots none (twS h res S)) args s R.cells R.slots (fr E)) (F0 m 0 ls []) := by
  intro x1 σ H locs cells slots ls I hl hf
  obtain ⟨⟨hx, hb, hml, hown, hts⟩, -⟩ := id X
  unfold fX4_offers at hf
  refine lv_aload_n hx hb dX4_offers_0 rfl (lv_at hl 0 rfl) ?_
  refine lv_iload_n hx hb dX4_offers_1 rfl (lv_at hl 1 rfl) ?_
  refine lv_iconst (v := 0) hx hb dX4_offers_2 (by decide) ?_
  refine lv_iconst (v := 4) hx hb dX4_offers_3 (by decide) ?_
  obtain ⟨σ_30, eσ_30, hf⟩ := ob hf
  refine tw_V none (rs := []) (rest := []) (As := [.int x1, .int (0 : Int32), .int (4 : Int32)]) X I (mX4_sets X.2.2.2.2.1 eσ_30) lvX4_sets hdX4_sets ⟨Nat.le_trans (Nat.le_of_ble_eq_true rfl) hR.1, Nat.le_trans (Nat.le_of_ble_eq_true rfl) hR.2⟩ rfl hl.1 rfl (Nat.le_of_ble_eq_true rfl) rfl dX4_offers_4 (fun H locs cells slots I => ?_)
  refine lv_iconst (v := 0) hx hb dX4_offers_7 (by decide) ?_
  refine lv_istore_n (lv' := [(2, .int (0 : Int32)), (0, .ref h), (1, .int x1)]) hx hb dX4_offers_8 rfl hl (by decide) rfl (fun ls hl => ?_)
  exact wX4_offers_9 hR X N N _ _ _ _ _ _ _ _ I (lv_sub hl [1, 2, 0] rfl) hf
theorem mX4_offers {E : EV} {l : Launch} {h : Nat} {S : St} {N : Nat} {σ : TS} {x1 : Int32} {res : TS} (hE : EK E) (hf : fX4_offers N σ x1 = some res) : CM E l yX4_offers (ws_ yX4_offers cX4_offers 4 none) 5 125 [.ref h, .int x1] (twS h σ S) none (twS h res S) := by
  refine CM.of hE (by decide) rfl rfl (Nat.le_of_ble_eq_true rfl) ?_
  intro p e s m below meth c X I ls hl
  exact wX4_offers_0 ⟨Nat.le_refl _, Nat.le_refl _⟩ X N _ _ _ _ _ _ _ I hl hf
/-! ask(IIIII)I -/
theorem wX4_ask_110 {E : EV} {l : Launch} {p : Program} {e : Env} {s : State} {m : MethodId} {args : Array Value} {below : List Frame} {meth : Method} {c : Code} {R : Room} {h : Nat} {S : St} {res : (Int32 × TS)} (hR : 6 ≤ R.frames ∧ 148 ≤ R.locals) (X : MX E p s m args meth c cX4_ask 8 (some .int) RX4 "ask") (N : Nat) : ∀ (n : Nat) (x1 : Int32) (x2 : Int32) (x3 : Int32) (x4 : Int32) (x5 : Int32) (x6 : Int32) (x7 : Int32) (σ : TS) (H : Heap) (locs : List Loc) (cells slots : Nat) (ls : Array Slot), WI E R s (twS h σ S) H locs cells slots → lv_has ls 8 [(0, .ref h), (1, .int x1), (2, .int x2), (3, .int x3), (4, .int x4), (5, .int x5), (6, .int x6), (7, .int x7)] → fX4_ask_110 N n x1 x2 x3 x4 x5 x6 x7 σ = some res → W p l e R s m args below meth c H locs cells slots (MQ below (Qd E R.cells R.slots (some (.int res.1)) (twS h res.2 S)) args s R.cells R.slots (fr E)) (F0 m 110 ls []) := by
  intro n
  induction n with
  | zero => intro x1 x2 x3 x4 x5 x6 x7 σ H locs cells slots ls I hl hf; exact nomatch (show none = some res from hf)
  | succ n ih =>
    intro x1 x2 x3 x4 x5 x6 x7 σ H locs cells slots ls I hl hf
    obtain ⟨⟨hx, hb, hml, hown, hts⟩, -⟩ := id X
    rw [fX4_ask_110.eq_2] at hf
    refine lv_iload hx hb dX4_ask_110 (lv_at hl 7 rfl) ?_
    refine lv_bipush (v := 17) hx hb dX4_ask_112 (by decide) ?_
    refine lv_icmp_ge (tgt := 132) hx hb dX4_ask_114 (by decide) (fun c_114 => ?_) (fun c_114 => ?_)
    · have hf := ip c_114 hf
      refine lv_aload_n hx hb dX4_ask_132 rfl (lv_at hl 0 rfl) ?_
      refine lv_iload hx hb dX4_ask_133 (lv_at hl 6 rfl) ?_
      refine lv_iconst (v := 1) hx hb dX4_ask_135 (by decide) ?_
      refine lv_iload_n hx hb dX4_ask_136 rfl (lv_at hl 1 rfl) ?_
      obtain ⟨σ_2, eσ_2, hf⟩ := ob hf
      refine tw_V none (rs := []) (rest := []) (As := [.int x6, .int (1 : Int32), .int x1]) X I (mX4_sets X.2.2.2.2.1 eσ_2) lvX4_sets hdX4_sets ⟨Nat.le_trans (Nat.le_of_ble_eq_true rfl) hR.1, Nat.le_trans (Nat.le_of_ble_eq_true rfl) hR.2⟩ rfl hl.1 rfl (Nat.le_of_ble_eq_true rfl) rfl dX4_ask_137 (fun H locs cells slots I => ?_)
      refine lv_aload_n hx hb dX4_ask_140 rfl (lv_at hl 0 rfl) ?_
      refine lv_iload hx hb dX4_ask_141 (lv_at hl 6 rfl) ?_
      refine lv_iconst (v := 2) hx hb dX4_ask_143 (by decide) ?_
      refine lv_iload_n hx hb dX4_ask_144 rfl (lv_at hl 2 rfl) ?_
      obtain ⟨σ_4, eσ_4, hf⟩ := ob hf
      refine tw_V none (rs := []) (rest := []) (As := [.int x6, .int (2 : Int32), .int x2]) X I (mX4_sets X.2.2.2.2.1 eσ_4) lvX4_sets hdX4_sets ⟨Nat.le_trans (Nat.le_of_ble_eq_true rfl) hR.1, Nat.le_trans (Nat.le_of_ble_eq_true rfl) hR.2⟩ rfl hl.1 rfl (Nat.le_of_ble_eq_true rfl) rfl dX4_ask_145 (fun H locs cells slots I => ?_)
      refine lv_aload_n hx hb dX4_ask_148 rfl (lv_at hl 0 rfl) ?_
      refine lv_iload hx hb dX4_ask_149 (lv_at hl 6 rfl) ?_
      refine lv_iconst (v := 3) hx hb dX4_ask_151 (by decide) ?_
      refine lv_iload_n hx hb dX4_ask_152 rfl (lv_at hl 3 rfl) ?_
      obtain ⟨σ_6, eσ_6, hf⟩ := ob hf
      refine tw_V none (rs := []) (rest := []) (As := [.int x6, .int (3 : Int32), .int x3]) X I (mX4_sets X.2.2.2.2.1 eσ_6) lvX4_sets hdX4_sets ⟨Nat.le_trans (Nat.le_of_ble_eq_true rfl) hR.1, Nat.le_trans (Nat.le_of_ble_eq_true rfl) hR.2⟩ rfl hl.1 rfl (Nat.le_of_ble_eq_true rfl) rfl dX4_ask_153 (fun H locs cells slots I => ?_)
      refine lv_aload_n hx hb dX4_ask_156 rfl (lv_at hl 0 rfl) ?_
      refine lv_iload hx hb dX4_ask_157 (lv_at hl 6 rfl) ?_
      refine lv_iconst (v := 4) hx hb dX4_ask_159 (by decide) ?_
      refine lv_aload_n hx hb dX4_ask_160 rfl (lv_at hl 0 rfl) ?_
      refine tw_get X I 1 (v := .ref (h + 1)) (by decide) q2688 rfl dX4_ask_161 ?_
      refine lv_iconst (v := 0) hx hb dX4_ask_164 (by decide) ?_
      obtain ⟨v_7, ev_7, hf⟩ := ob hf
      refine tw_ald X I 1 (by decide) (by decide) (by decide) ev_7 dX4_ask_165 ?_
      refine lv_iload hx hb dX4_ask_166 (lv_at hl 4 rfl) ?_
      refine lv_iadd hx hb dX4_ask_168 ?_
      obtain ⟨σ_9, eσ_9, hf⟩ := ob hf
      refine tw_V none (rs := []) (rest := []) (As := [.int x6, .int (4 : Int32), .int (v_7 + x4)]) X I (mX4_sets X.2.2.2.2.1 eσ_9) lvX4_sets hdX4_sets ⟨Nat.le_trans (Nat.le_of_ble_eq_true rfl) hR.1, Nat.le_trans (Nat.le_of_ble_eq_true rfl) hR.2⟩ rfl hl.1 rfl (Nat.le_of_ble_eq_true rfl) rfl dX4_ask_169 (fun H locs cells slots I => ?_)
      refine lv_aload_n hx hb dX4_ask_172 rfl (lv_at hl 0 rfl) ?_
      refine lv_iload hx hb dX4_ask_173 (lv_at hl 6 rfl) ?_
      refine lv_iconst (v := 5) hx hb dX4_ask_175 (by decide) ?_
      refine lv_aload_n hx hb dX4_ask_176 rfl (lv_at hl 0 rfl) ?_
      refine tw_get X I 1 (v := .ref (h + 1)) (by decide) q2688 rfl dX4_ask_177 ?_
      refine lv_iconst (v := 0) hx hb dX4_ask_180 (by decide) ?_
      obtain ⟨v_10, ev_10, hf⟩ := ob hf
      refine tw_ald X I 1 (by decide) (by decide) (by decide) ev_10 dX4_ask_181 ?_
      refine lv_iload hx hb dX4_ask_182 (lv_at hl 4 rfl) ?_
      refine lv_iadd hx hb dX4_ask_184 ?_
      refine lv_aload_n hx hb dX4_ask_185 rfl (lv_at hl 0 rfl) ?_
      refine lv_iconst (v := 0) hx hb dX4_ask_186 (by decide) ?_
      obtain ⟨v_11, ev_11, hf⟩ := ob hf
      refine tw_V (some (.int v_11)) (rs := [.int v_11, .int (v_10 + x4), .int (5 : Int32), .int x6, .ref h]) (rest := [.int (v_10 + x4), .int (5 : Int32), .int x6, .ref h]) (As := [.int (0 : Int32)]) X I (mX4_ruled X.2.2.2.2.1 ev_11) lvX4_ruled hdX4_ruled ⟨Nat.le_trans (Nat.le_of_ble_eq_true rfl) hR.1, Nat.le_trans (Nat.le_of_ble_eq_true rfl) hR.2⟩ rfl hl.1 rfl (Nat.le_of_ble_eq_true rfl) rfl dX4_ask_187 (fun H locs cells slots I => ?_)
      refine lv_iadd hx hb dX4_ask_190 ?_
      obtain ⟨σ_14, eσ_14, hf⟩ := ob hf
      refine tw_V none (rs := []) (rest := []) (As := [.int x6, .int (5 : Int32), .int ((v_10 + x4) + v_11)]) X I (mX4_sets X.2.2.2.2.1 eσ_14) lvX4_sets hdX4_sets ⟨Nat.le_trans (Nat.le_of_ble_eq_true rfl) hR.1, Nat.le_trans (Nat.le_of_ble_eq_true rfl) hR.2⟩ rfl hl.1 rfl (Nat.le_of_ble_eq_true rfl) rfl dX4_ask_191 (fun H locs cells slots I => ?_)
      refine lv_aload_n hx hb dX4_ask_194 rfl (lv_at hl 0 rfl) ?_
      refine lv_iload hx hb dX4_ask_195 (lv_at hl 6 rfl) ?_
      refine lv_bipush (v := 6) hx hb dX4_ask_197 (by decide) ?_
      refine lv_iload hx hb dX4_ask_199 (lv_at hl 5 rfl) ?_
      obtain ⟨σ_16, eσ_16, hf⟩ := ob hf
      refine tw_V none (rs := []) (rest := []) (As := [.int x6, .int (6 : Int32), .int x5]) X I (mX4_sets X.2.2.2.2.1 eσ_16) lvX4_sets hdX4_sets ⟨Nat.le_trans (Nat.le_of_ble_eq_true rfl) hR.1, Nat.le_trans (Nat.le_of_ble_eq_true rfl) hR.2⟩ rfl hl.1 rfl (Nat.le_of_ble_eq_true rfl) rfl dX4_ask_201 (fun H locs cells slots I => ?_)
      refine lv_aload_n hx hb dX4_ask_204 rfl (lv_at hl 0 rfl) ?_
      refine lv_iload hx hb dX4_ask_205 (lv_at hl 6 rfl) ?_
      refine lv_bipush (v := 7) hx hb dX4_ask_207 (by decide) ?_
      refine lv_iconst (v := (-1)) hx hb dX4_ask_209 (by decide) ?_
      obtain ⟨σ_18, eσ_18, hf⟩ := ob hf
      refine tw_V none (rs := []) (rest := []) (As := [.int x6, .int (7 : Int32), .int (-1 : Int32)]) X I (mX4_sets X.2.2.2.2.1 eσ_18) lvX4_sets hdX4_sets ⟨Nat.le_trans (Nat.le_of_ble_eq_true rfl) hR.1, Nat.le_trans (Nat.le_of_ble_eq_true rfl) hR.2⟩ rfl hl.1 rfl (Nat.le_of_ble_eq_true rfl) rfl dX4_ask_210 (fun H locs cells slots I => ?_)
      refine lv_aload_n hx hb dX4_ask_213 rfl (lv_at hl 0 rfl) ?_
      refine lv_iload hx hb dX4_ask_214 (lv_at hl 6 rfl) ?_
      refine lv_bipush (v := 8) hx hb dX4_ask_216 (by decide) ?_
      refine lv_iconst (v := (-1)) hx hb dX4_ask_218 (by decide) ?_
      obtain ⟨σ_20, eσ_20, hf⟩ := ob hf
      refine tw_V none (rs := []) (rest := []) (As := [.int x6, .int (8 : Int32), .int (-1 : Int32)]) X I (mX4_sets X.2.2.2.2.1 eσ_20) lvX4_sets hdX4_sets ⟨Nat.le_trans (Nat.le_of_ble_eq_true rfl) hR.1, Nat.le_trans (Nat.le_of_ble_eq_true rfl) hR.2⟩ rfl hl.1 rfl (Nat.le_of_ble_eq_true rfl) rfl dX4_ask_219 (fun H locs cells slots I => ?_)
      refine lv_aload_n hx hb dX4_ask_222 rfl (lv_at hl 0 rfl) ?_
      refine lv_iload hx hb dX4_ask_223 (lv_at hl 6 rfl) ?_
      refine lv_bipush (v := 9) hx hb dX4_ask_225 (by decide) ?_
      refine lv_iconst (v := (-1)) hx hb dX4_ask_227 (by decide) ?_
      obtain ⟨σ_22, eσ_22, hf⟩ := ob hf
      refine tw_V none (rs := []) (rest := []) (As := [.int x6, .int (9 : Int32), .int (-1 : Int32)]) X I (mX4_sets X.2.2.2.2.1 eσ_22) lvX4_sets hdX4_sets ⟨Nat.le_trans (Nat.le_of_ble_eq_true rfl) hR.1, Nat.le_trans (Nat.le_of_ble_eq_true rfl) hR.2⟩ rfl hl.1 rfl (Nat.le_of_ble_eq_true rfl) rfl dX4_ask_228 (fun H locs cells slots I => ?_)
      refine lv_aload_n hx hb dX4_ask_231 rfl (lv_at hl 0 rfl) ?_
      refine tw_get X I 1 (v := .ref (h + 1)) (by decide) q2688 rfl dX4_ask_232 ?_
      refine lv_iconst (v := 1) hx hb dX4_ask_235 (by decide) ?_
      refine lv_dup2_11 hx hb dX4_ask_236 rfl rfl ?_
      obtain ⟨v_23, ev_23, hf⟩ := ob hf
      refine tw_ald X I 1 (by decide) (by decide) (by decide) ev_23 dX4_ask_237 ?_
      refine lv_iconst (v := 1) hx hb dX4_ask_238 (by decide) ?_
      refine lv_iadd hx hb dX4_ask_239 ?_
      obtain ⟨σ_24, eσ_24, hf⟩ := ob hf
      refine tw_ast X I 1 (by decide) (by decide) (by decide) eσ_24 dX4_ask_240 (fun H locs I => ?_)
      refine lv_aload_n hx hb dX4_ask_241 rfl (lv_at hl 0 rfl) ?_
      refine lv_iload hx hb dX4_ask_242 (lv_at hl 6 rfl) ?_
      obtain ⟨σ_26, eσ_26, hf⟩ := ob hf
      refine tw_V none (rs := []) (rest := []) (As := [.int x6]) X I (mX4_offers X.2.2.2.2.1 eσ_26) lvX4_offers hdX4_offers ⟨Nat.le_trans (Nat.le_of_ble_eq_true rfl) hR.1, Nat.le_trans (Nat.le_of_ble_eq_true rfl) hR.2⟩ rfl hl.1 rfl (Nat.le_of_ble_eq_true rfl) rfl dX4_ask_244 (fun H locs cells slots I => ?_)
      refine lv_iload hx hb dX4_ask_247 (lv_at hl 6 rfl) ?_
      cases os hf
      exact r_iret X I dX4_ask_249
    · have hf := im c_114 hf
      refine lv_aload_n hx hb dX4_ask_117 rfl (lv_at hl 0 rfl) ?_
      refine lv_iload hx hb dX4_ask_118 (lv_at hl 6 rfl) ?_
      refine lv_iload hx hb dX4_ask_120 (lv_at hl 7 rfl) ?_
      refine lv_iconst (v := 0) hx hb dX4_ask_122 (by decide) ?_
      obtain ⟨σ_28, eσ_28, hf⟩ := ob hf
      refine tw_V none (rs := []) (rest := []) (As := [.int x6, .int x7, .int (0 : Int32)]) X I (mX4_sets X.2.2.2.2.1 eσ_28) lvX4_sets hdX4_sets ⟨Nat.le_trans (Nat.le_of_ble_eq_true rfl) hR.1, Nat.le_trans (Nat.le_of_ble_eq_true rfl) hR.2⟩ rfl hl.1 rfl (Nat.le_of_ble_eq_true rfl) rfl dX4_ask_123 (fun H locs cells slots I => ?_)
      obtain ⟨x7_29, ex7_29, hf⟩ := ol hf
      refine lv_iinc (v := x7_29) (lv' := [(7, .int x7_29), (0, .ref h), (1, .int x1), (2, .int x2), (3, .int x3), (4, .int x4), (5, .int x5), (6, .int x6)]) hx hb dX4_ask_126 hl (k := 7) rfl ex7_29 (by decide) rfl (fun ls hl => ?_)
      refine lv_goto (tgt := 110) hx hb dX4_ask_129 (by decide) ?_
      exact ih _ _ _ _ _ _ _ _ _ _ _ _ _ I (lv_sub hl [1, 2, 3, 4, 5, 6, 7, 0] rfl) hf
theorem wX4_ask_72 {E : EV} {l : Launch} {p : Program} {e : Env} {s : State} {m : MethodId} {args : Array Value} {below : List Frame} {meth : Method} {c : Code} {R : Room} {h : Nat} {S : St} {res : (Int32 × TS)} (hR : 6 ≤ R.frames ∧ 148 ≤ R.locals) (X : MX E p s m args meth c cX4_ask 8 (some .int) RX4 "ask") (N : Nat) : ∀ (x1 : Int32) (x2 : Int32) (x3 : Int32) (x4 : Int32) (x5 : Int32) (y1 : Int32) (σ : TS) (H : Heap) (locs : List Loc) (cells slots : Nat) (ls : Array Slot), WI E R s (twS h σ S) H locs cells slots → lv_has ls 8 [(0, .ref h), (1, .int x1), (2, .int x2), (3, .int x3), (4, .int x4), (5, .int x5)] → fX4_ask_72 N x1 x2 x3 x4 x5 y1 σ = some res → W p l e R s m args below meth c H locs cells slots (MQ below (Qd E R.cells R.slots (some (.int res.1)) (twS h res.2 S)) args s R.cells R.slots (fr E)) (F0 m 72 ls [.int y1, .ref h]) := by
  intro x1 x2 x3 x4 x5 y1 σ H locs cells slots ls I hl hf
  obtain ⟨⟨hx, hb, hml, hown, hts⟩, -⟩ := id X
  unfold fX4_ask_72 at hf
  refine lv_iconst (v := 2) hx hb dX4_ask_72 (by decide) ?_
  obtain ⟨v_30, ev_30, hf⟩ := ob hf
  refine tw_V (some (.int v_30.1)) (rs := [.int v_30.1]) (rest := []) (As := [.int y1, .int (2 : Int32)]) X I (mX4_fails X.2.2.2.2.1 ev_30) lvX4_fails hdX4_fails ⟨Nat.le_trans (Nat.le_of_ble_eq_true rfl) hR.1, Nat.le_trans (Nat.le_of_ble_eq_true rfl) hR.2⟩ rfl hl.1 rfl (Nat.le_of_ble_eq_true rfl) rfl dX4_ask_73 (fun H locs cells slots I => ?_)
  refine lv_if_eq (tgt := 81) hx hb dX4_ask_76 (by decide) (fun c_76 => ?_) (fun c_76 => ?_)
  · have hf := ip c_76 hf
    refine lv_aload_n hx hb dX4_ask_81 rfl (lv_at hl 0 rfl) ?_
    refine tw_get X I 1 (v := .ref (h + 1)) (by decide) q2688 rfl dX4_ask_82 ?_
    refine lv_iconst (v := 1) hx hb dX4_ask_85 (by decide) ?_
    obtain ⟨v_32, ev_32, hf⟩ := ob hf
    refine tw_ald X I 1 (by decide) (by decide) (by decide) ev_32 dX4_ask_86 ?_
    refine lv_bipush (v := 24) hx hb dX4_ask_87 (by decide) ?_
    refine lv_icmp_ne (tgt := 95) hx hb dX4_ask_89 (by decide) (fun c_89 => ?_) (fun c_89 => ?_)
    · have hf := im c_89 hf
      refine lv_aload_n hx hb dX4_ask_95 rfl (lv_at hl 0 rfl) ?_
      obtain ⟨σ_34, eσ_34, hf⟩ := ob hf
      refine tw_V none (rs := []) (rest := []) (As := []) X I (mX4_records X.2.2.2.2.1 eσ_34) lvX4_records hdX4_records ⟨Nat.le_trans (Nat.le_of_ble_eq_true rfl) hR.1, Nat.le_trans (Nat.le_of_ble_eq_true rfl) hR.2⟩ rfl hl.1 rfl (Nat.le_of_ble_eq_true rfl) rfl dX4_ask_96 (fun H locs cells slots I => ?_)
      refine lv_aload_n hx hb dX4_ask_99 rfl (lv_at hl 0 rfl) ?_
      refine tw_get X I 1 (v := .ref (h + 1)) (by decide) q2688 rfl dX4_ask_100 ?_
      refine lv_iconst (v := 1) hx hb dX4_ask_103 (by decide) ?_
      obtain ⟨v_35, ev_35, hf⟩ := ob hf
      refine tw_ald X I 1 (by decide) (by decide) (by decide) ev_35 dX4_ask_104 ?_
      refine lv_istore (lv' := [(6, .int v_35), (0, .ref h), (1, .int x1), (2, .int x2), (3, .int x3), (4, .int x4), (5, .int x5)]) hx hb dX4_ask_105 hl (by decide) rfl (fun ls hl => ?_)
      refine lv_iconst (v := 0) hx hb dX4_ask_107 (by decide) ?_
      refine lv_istore (lv' := [(7, .int (0 : Int32)), (6, .int v_35), (0, .ref h), (1, .int x1), (2, .int x2), (3, .int x3), (4, .int x4), (5, .int x5)]) hx hb dX4_ask_108 hl (by decide) rfl (fun ls hl => ?_)
      exact wX4_ask_110 hR X N N _ _ _ _ _ _ _ _ _ _ _ _ _ I (lv_sub hl [2, 3, 4, 5, 6, 7, 1, 0] rfl) hf
    · have hf := ip c_89 hf
      refine lv_bipush (v := (-2)) hx hb dX4_ask_92 (by decide) ?_
      cases os hf
      exact r_iret X I dX4_ask_94
  · have hf := im c_76 hf
    refine lv_iconst (v := 0) hx hb dX4_ask_79 (by decide) ?_
    cases os hf
    exact r_iret X I dX4_ask_80
theorem wX4_ask_71 {E : EV} {l : Launch} {p : Program} {e : Env} {s : State} {m : MethodId} {args : Array Value} {below : List Frame} {meth : Method} {c : Code} {R : Room} {h : Nat} {S : St} {res : (Int32 × TS)} (hR : 6 ≤ R.frames ∧ 148 ≤ R.locals) (X : MX E p s m args meth c cX4_ask 8 (some .int) RX4 "ask") (N : Nat) : ∀ (x1 : Int32) (x2 : Int32) (x3 : Int32) (x4 : Int32) (x5 : Int32) (σ : TS) (H : Heap) (locs : List Loc) (cells slots : Nat) (ls : Array Slot), WI E R s (twS h σ S) H locs cells slots → lv_has ls 8 [(0, .ref h), (1, .int x1), (2, .int x2), (3, .int x3), (4, .int x4), (5, .int x5)] → fX4_ask_71 N x1 x2 x3 x4 x5 σ = some res → W p l e R s m args below meth c H locs cells slots (MQ below (Qd E R.cells R.slots (some (.int res.1)) (twS h res.2 S)) args s R.cells R.slots (fr E)) (F0 m 71 ls [.ref h]) := by
  intro x1 x2 x3 x4 x5 σ H locs cells slots ls I hl hf
  obtain ⟨⟨hx, hb, hml, hown, hts⟩, -⟩ := id X
  unfold fX4_ask_71 at hf
  refine lv_iconst (v := 0) hx hb dX4_ask_71 (by decide) ?_
  exact wX4_ask_72 hR X N _ _ _ _ _ _ _ _ _ _ _ _ I (lv_sub hl [0, 1, 2, 3, 4, 5] rfl) hf
theorem wX4_ask_0 {E : EV} {l : Launch} {p : Program} {e : Env} {s : State} {m : MethodId} {args : Array Value} {below : List Frame} {meth : Method} {c : Code} {R : Room} {h : Nat} {S : St} {res : (Int32 × TS)} (hR : 6 ≤ R.frames ∧ 148 ≤ R.locals) (X : MX E p s m args meth c cX4_ask 8 (some .int) RX4 "ask") (N : Nat) : ∀ (x1 : Int32) (x2 : Int32) (x3 : Int32) (x4 : Int32) (x5 : Int32) (σ : TS) (H : Heap) (locs : List Loc) (cells slots : Nat) (ls : Array Slot), WI E R s (twS h σ S) H locs cells slots → lv_has ls 8 [(0, .ref h), (1, .int x1), (2, .int x2), (3, .int x3), (4, .int x4), (5, .int x5)] → fX4_ask N σ x1 x2 x3 x4 x5 = some res → W p l e R s m args below meth c H locs cells slots (MQ below (Qd E R.cells R.slots (some (.int res.1)) (twS h res.2 S)) args s R.cells R.slots (fr E)) (F0 m 0 ls []) := by
  intro x1 x2 x3 x4 x5 σ H locs cells slots ls I hl hf
  obtain ⟨⟨hx, hb, hml, hown, hts⟩, -⟩ := id X
  unfold fX4_ask at hf
  refine lv_aload_n hx hb dX4_ask_0 rfl (lv_at hl 0 rfl) ?_
  refine lv_iconst (v := 0) hx hb dX4_ask_1 (by decide) ?_
  obtain ⟨σ_36, eσ_36, hf⟩ := ol hf
  refine tw_put X I 0 (ty := .int) (by decide) (by decide) rfl q2687 rfl rfl rfl rfl eσ_36 dX4_ask_2 (fun H locs I => ?_)
  refine lv_aload_n hx hb dX4_ask_5 rfl (lv_at hl 0 rfl) ?_
  refine lv_iload_n hx hb dX4_ask_6 rfl (lv_at hl 1 rfl) ?_
  obtain ⟨v_37, ev_37, hf⟩ := ob hf
  refine tw_V (some (.int v_37.1)) (rs := [.int v_37.1]) (rest := []) (As := [.int x1]) X I (mX4_noZone X.2.2.2.2.1 ev_37) lvX4_noZone hdX4_noZone ⟨Nat.le_trans (Nat.le_of_ble_eq_true rfl) hR.1, Nat.le_trans (Nat.le_of_ble_eq_true rfl) hR.2⟩ rfl hl.1 rfl (Nat.le_of_ble_eq_true rfl) rfl dX4_ask_7 (fun H locs cells slots I => ?_)
  refine lv_if_ne (tgt := 21) hx hb dX4_ask_10 (by decide) (fun c_10 => ?_) (fun c_10 => ?_)
  · have hf := im c_10 hf
    refine lv_iconst (v := 0) hx hb dX4_ask_21 (by decide) ?_
    cases os hf
    exact r_iret X I dX4_ask_22
  · have hf := ip c_10 hf
    refine lv_aload_n hx hb dX4_ask_13 rfl (lv_at hl 0 rfl) ?_
    refine lv_iload_n hx hb dX4_ask_14 rfl (lv_at hl 2 rfl) ?_
    obtain ⟨v_39, ev_39, hf⟩ := ob hf
    refine tw_V (some (.int v_39.1)) (rs := [.int v_39.1]) (rest := []) (As := [.int x2]) X I (mX4_noZone X.2.2.2.2.1 ev_39) lvX4_noZone hdX4_noZone ⟨Nat.le_trans (Nat.le_of_ble_eq_true rfl) hR.1, Nat.le_trans (Nat.le_of_ble_eq_true rfl) hR.2⟩ rfl hl.1 rfl (Nat.le_of_ble_eq_true rfl) rfl dX4_ask_15 (fun H locs cells slots I => ?_)
    refine lv_if_eq (tgt := 23) hx hb dX4_ask_18 (by decide) (fun c_18 => ?_) (fun c_18 => ?_)
    · have hf := ip c_18 hf
      refine lv_aload_n hx hb dX4_ask_23 rfl (lv_at hl 0 rfl) ?_
      refine lv_iload_n hx hb dX4_ask_24 rfl (lv_at hl 3 rfl) ?_
      refine lv_i2l hx hb dX4_ask_25 rfl ?_
      refine lv_lconst (v := 1) hx hb dX4_ask_26 (by decide) ?_
      refine lv_ldc2 (v := 6) hx hb hown (hts _ q3129) dX4_ask_27 ?_
      obtain ⟨v_41, ev_41, hf⟩ := ob hf
      refine tw_S (some (.int v_41)) (rs := [.int v_41, .ref h]) (rest := [.ref h]) (As := [.long (x3.toInt64), .long (1 : Int64), .long (6 : Int64)]) X I (mX4_in X.2.2.2.2.1 ev_41) lvX4_in hdX4_in ⟨Nat.le_trans (Nat.le_of_ble_eq_true rfl) hR.1, Nat.le_trans (Nat.le_of_ble_eq_true rfl) hR.2⟩ rfl hl.1 rfl (Nat.le_of_ble_eq_true rfl) rfl dX4_ask_30 (fun H locs cells slots I => ?_)
      refine lv_if_eq (tgt := 71) hx hb dX4_ask_33 (by decide) (fun c_33 => ?_) (fun c_33 => ?_)
      · have hf := ip c_33 hf
        exact wX4_ask_71 hR X N _ _ _ _ _ _ _ _ _ _ _ I (lv_sub hl [0, 1, 2, 3, 4, 5] rfl) hf
      · have hf := im c_33 hf
        refine lv_iload hx hb dX4_ask_36 (lv_at hl 4 rfl) ?_
        refine lv_i2l hx hb dX4_ask_38 rfl ?_
        refine lv_lconst (v := 0) hx hb dX4_ask_39 (by decide) ?_
        refine lv_ldc2 (v := 600) hx hb hown (hts _ q3142) dX4_ask_40 ?_
        obtain ⟨v_43, ev_43, hf⟩ := ob hf
        refine tw_S (some (.int v_43)) (rs := [.int v_43, .ref h]) (rest := [.ref h]) (As := [.long (x4.toInt64), .long (0 : Int64), .long (600 : Int64)]) X I (mX4_in X.2.2.2.2.1 ev_43) lvX4_in hdX4_in ⟨Nat.le_trans (Nat.le_of_ble_eq_true rfl) hR.1, Nat.le_trans (Nat.le_of_ble_eq_true rfl) hR.2⟩ rfl hl.1 rfl (Nat.le_of_ble_eq_true rfl) rfl dX4_ask_43 (fun H locs cells slots I => ?_)
        refine lv_if_eq (tgt := 71) hx hb dX4_ask_46 (by decide) (fun c_46 => ?_) (fun c_46 => ?_)
        · have hf := ip c_46 hf
          exact wX4_ask_71 hR X N _ _ _ _ _ _ _ _ _ _ _ I (lv_sub hl [0, 1, 2, 3, 4, 5] rfl) hf
        · have hf := im c_46 hf
          refine lv_iload hx hb dX4_ask_49 (lv_at hl 5 rfl) ?_
          refine lv_i2l hx hb dX4_ask_51 rfl ?_
          refine lv_lconst (v := 0) hx hb dX4_ask_52 (by decide) ?_
          refine lv_ldc2 (v := 200) hx hb hown (hts _ q3143) dX4_ask_53 ?_
          obtain ⟨v_45, ev_45, hf⟩ := ob hf
          refine tw_S (some (.int v_45)) (rs := [.int v_45, .ref h]) (rest := [.ref h]) (As := [.long (x5.toInt64), .long (0 : Int64), .long (200 : Int64)]) X I (mX4_in X.2.2.2.2.1 ev_45) lvX4_in hdX4_in ⟨Nat.le_trans (Nat.le_of_ble_eq_true rfl) hR.1, Nat.le_trans (Nat.le_of_ble_eq_true rfl) hR.2⟩ rfl hl.1 rfl (Nat.le_of_ble_eq_true rfl) rfl dX4_ask_56 (fun H locs cells slots I => ?_)
          refine lv_if_eq (tgt := 71) hx hb dX4_ask_59 (by decide) (fun c_59 => ?_) (fun c_59 => ?_)
          · have hf := ip c_59 hf
            exact wX4_ask_71 hR X N _ _ _ _ _ _ _ _ _ _ _ I (lv_sub hl [0, 1, 2, 3, 4, 5] rfl) hf
          · have hf := im c_59 hf
            refine lv_iload_n hx hb dX4_ask_62 rfl (lv_at hl 1 rfl) ?_
            refine lv_iload_n hx hb dX4_ask_63 rfl (lv_at hl 2 rfl) ?_
            refine lv_icmp_eq (tgt := 71) hx hb dX4_ask_64 (by decide) (fun c_64 => ?_) (fun c_64 => ?_)
            · have hf := ip c_64 hf
              exact wX4_ask_71 hR X N _ _ _ _ _ _ _ _ _ _ _ I (lv_sub hl [0, 1, 2, 3, 4, 5] rfl) hf
            · have hf := im c_64 hf
              refine lv_iconst (v := 1) hx hb dX4_ask_67 (by decide) ?_
              refine lv_goto (tgt := 72) hx hb dX4_ask_68 (by decide) ?_
              exact wX4_ask_72 hR X N _ _ _ _ _ _ _ _ _ _ _ _ I (lv_sub hl [0, 1, 2, 3, 4, 5] rfl) hf
    · have hf := im c_18 hf
      refine lv_iconst (v := 0) hx hb dX4_ask_21 (by decide) ?_
      cases os hf
      exact r_iret X I dX4_ask_22
theorem mX4_ask {E : EV} {l : Launch} {h : Nat} {S : St} {N : Nat} {σ : TS} {x1 : Int32} {x2 : Int32} {x3 : Int32} {x4 : Int32} {x5 : Int32} {res : (Int32 × TS)} (hE : EK E) (hf : fX4_ask N σ x1 x2 x3 x4 x5 = some res) : CM E l yX4_ask (ws_ yX4_ask cX4_ask 8 (some .int)) 6 148 [.ref h, .int x1, .int x2, .int x3, .int x4, .int x5] (twS h σ S) (some (.int res.1)) (twS h res.2 S) := by
  refine CM.of hE (by decide) rfl rfl (Nat.le_of_ble_eq_true rfl) ?_
  intro p e s m below meth c X I ls hl
  exact wX4_ask_0 ⟨Nat.le_refl _, Nat.le_refl _⟩ X N _ _ _ _ _ _ _ _ _ _ _ I hl hf
/-! lays2(III)V -/
theorem lvX4_lays2 : GoodIn lw_all (wsV RX4 326 RX4 yX4_lays2 (ws_ yX4_lays2 cX4_lays2 4 none)) := lw_V q3164 q3166 qs91 q120 q3167
theorem hdX4_lays2 : yX4_lays2.cls = RX4 ∧ yX4_lays2.cls ≠ "java/lang/invoke/MethodHandle" ∧ yX4_lays2.cls ≠ "java/lang/invoke/VarHandle" ∧ (parseMethodDescriptor yX4_lays2.desc).map (fun d => d.parameters.length) = some 3 := by decide +kernel
theorem wX4_lays2_0 {E : EV} {l : Launch} {p : Program} {e : Env} {s : State} {m : MethodId} {args : Array Value} {below : List Frame} {meth : Method} {c : Code} {R : Room} {h : Nat} {S : St} {res : TS} (hR : 0 ≤ R.frames ∧ 0 ≤ R.locals) (X : MX E p s m args meth c cX4_lays2 4 none RX4 "lays2") : ∀ (x1 : Int32) (x2 : Int32) (x3 : Int32) (σ : TS) (H : Heap) (locs : List Loc) (cells slots : Nat) (ls : Array Slot), WI E R s (twS h σ S) H locs cells slots → lv_has ls 4 [(0, .ref h), (1, .int x1), (2, .int x2), (3, .int x3)] → fX4_lays2 σ x1 x2 x3 = some res → W p l e R s m args below meth c H locs cells slots (MQ below (Qd E R.cells R.slots none (twS h res S)) args s R.cells R.slots (fr E)) (F0 m 0 ls []) := by
  intro x1 x2 x3 σ H locs cells slots ls I hl hf
  obtain ⟨⟨hx, hb, hml, hown, hts⟩, -⟩ := id X
  unfold fX4_lays2 at hf
  refine lv_aload_n hx hb dX4_lays2_0 rfl (lv_at hl 0 rfl) ?_
  refine tw_get X I 1 (v := .ref (h + 1)) (by decide) q2688 rfl dX4_lays2_1 ?_
  refine lv_bipush (v := 13) hx hb dX4_lays2_4 (by decide) ?_
  refine lv_bipush (v := 40) hx hb dX4_lays2_6 (by decide) ?_
  refine lv_iload_n hx hb dX4_lays2_8 rfl (lv_at hl 1 rfl) ?_
  refine lv_imul hx hb dX4_lays2_9 ?_
  refine lv_iadd hx hb dX4_lays2_10 ?_
  refine lv_iload_n hx hb dX4_lays2_11 rfl (lv_at hl 2 rfl) ?_
  refine lv_iadd hx hb dX4_lays2_12 ?_
  refine lv_iload_n hx hb dX4_lays2_13 rfl (lv_at hl 3 rfl) ?_
  obtain ⟨σ_1, eσ_1, hf⟩ := ob hf
  refine tw_ast X I 1 (by decide) (by decide) (by decide) eσ_1 dX4_lays2_14 (fun H locs I => ?_)
  cases os hf
  exact r_vret X I dX4_lays2_15
theorem mX4_lays2 {E : EV} {l : Launch} {h : Nat} {S : St} {σ : TS} {x1 : Int32} {x2 : Int32} {x3 : Int32} {res : TS} (hE : EK E) (hf : fX4_lays2 σ x1 x2 x3 = some res) : CM E l yX4_lays2 (ws_ yX4_lays2 cX4_lays2 4 none) 0 0 [.ref h, .int x1, .int x2, .int x3] (twS h σ S) none (twS h res S) := by
  refine CM.of hE (by decide) rfl rfl (Nat.le_of_ble_eq_true rfl) ?_
  intro p e s m below meth c X I ls hl
  exact wX4_lays2_0 ⟨Nat.le_refl _, Nat.le_refl _⟩ X _ _ _ _ _ _ _ _ _ I hl hf
/-! puts(I)V -/
theorem lvX4_puts : GoodIn lw_all (wsV RX4 408 RX4 yX4_puts (ws_ yX4_puts cX4_puts 3 none)) := lw_V q3160 q3162 qs90 q120 q3163
theorem hdX4_puts : yX4_puts.cls = RX4 ∧ yX4_puts.cls ≠ "java/lang/invoke/MethodHandle" ∧ yX4_puts.cls ≠ "java/lang/invoke/VarHandle" ∧ (parseMethodDescriptor yX4_puts.desc).map (fun d => d.parameters.length) = some 1 := by decide +kernel
theorem wX4_puts_2 {E : EV} {l : Launch} {p : Program} {e : Env} {s : State} {m : MethodId} {args : Array Value} {below : List Frame} {meth : Method} {c : Code} {R : Room} {h : Nat} {S : St} {res : TS} (hR : 1 ≤ R.frames ∧ 23 ≤ R.locals) (X : MX E p s m args meth c cX4_puts 3 none RX4 "puts") (N : Nat) : ∀ (n : Nat) (x1 : Int32) (x2 : Int32) (σ : TS) (H : Heap) (locs : List Loc) (cells slots : Nat) (ls : Array Slot), WI E R s (twS h σ S) H locs cells slots → lv_has ls 3 [(0, .ref h), (1, .int x1), (2, .int x2)] → fX4_puts_2 N n x1 x2 σ = some res → W p l e R s m args below meth c H locs cells slots (MQ below (Qd E R.cells R.slots none (twS h res S)) args s R.cells R.slots (fr E)) (F0 m 2 ls []) := by
  intro n
  induction n with
  | zero => intro x1 x2 σ H locs cells slots ls I hl hf; exact nomatch (show none = some res from hf)
  | succ n ih =>
    intro x1 x2 σ H locs cells slots ls I hl hf
    obtain ⟨⟨hx, hb, hml, hown, hts⟩, -⟩ := id X
    rw [fX4_puts_2.eq_2] at hf
    refine lv_iload_n hx hb dX4_puts_2 rfl (lv_at hl 2 rfl) ?_
    refine lv_aload_n hx hb dX4_puts_3 rfl (lv_at hl 0 rfl) ?_
    refine tw_get X I 39 (v := .int (σ.1 0 39)) (by decide) q2726 rfl dX4_puts_4 ?_
    refine lv_icmp_ge (tgt := 31) hx hb dX4_puts_7 (by decide) (fun c_7 => ?_) (fun c_7 => ?_)
    · have hf := ip c_7 hf
      refine lv_aload_n hx hb dX4_puts_31 rfl (lv_at hl 0 rfl) ?_
      refine lv_iload_n hx hb dX4_puts_32 rfl (lv_at hl 1 rfl) ?_
      refine lv_bipush (v := 11) hx hb dX4_puts_33 (by decide) ?_
      refine lv_aload_n hx hb dX4_puts_35 rfl (lv_at hl 0 rfl) ?_
      refine tw_get X I 39 (v := .int (σ.1 0 39)) (by decide) q2726 rfl dX4_puts_36 ?_
      obtain ⟨σ_2, eσ_2, hf⟩ := ob hf
      refine tw_V none (rs := []) (rest := []) (As := [.int x1, .int (11 : Int32), .int (σ.1 0 39)]) X I (mX4_lays2 X.2.2.2.2.1 eσ_2) lvX4_lays2 hdX4_lays2 ⟨Nat.le_trans (Nat.le_of_ble_eq_true rfl) hR.1, Nat.le_trans (Nat.le_of_ble_eq_true rfl) hR.2⟩ rfl hl.1 rfl (Nat.le_of_ble_eq_true rfl) rfl dX4_puts_39 (fun H locs cells slots I => ?_)
      cases os hf
      exact r_vret X I dX4_puts_42
    · have hf := im c_7 hf
      refine lv_aload_n hx hb dX4_puts_10 rfl (lv_at hl 0 rfl) ?_
      refine lv_iload_n hx hb dX4_puts_11 rfl (lv_at hl 1 rfl) ?_
      refine lv_bipush (v := 12) hx hb dX4_puts_12 (by decide) ?_
      refine lv_iload_n hx hb dX4_puts_14 rfl (lv_at hl 2 rfl) ?_
      refine lv_iadd hx hb dX4_puts_15 ?_
      refine lv_aload_n hx hb dX4_puts_16 rfl (lv_at hl 0 rfl) ?_
      refine tw_get X I 32 (v := .ref (h + 13)) (by decide) q2719 rfl dX4_puts_17 ?_
      refine lv_iload_n hx hb dX4_puts_20 rfl (lv_at hl 2 rfl) ?_
      obtain ⟨v_3, ev_3, hf⟩ := ob hf
      refine tw_ald X I 13 (by decide) (by decide) (by decide) ev_3 dX4_puts_21 ?_
      obtain ⟨σ_5, eσ_5, hf⟩ := ob hf
      refine tw_V none (rs := []) (rest := []) (As := [.int x1, .int ((12 : Int32) + x2), .int v_3]) X I (mX4_lays2 X.2.2.2.2.1 eσ_5) lvX4_lays2 hdX4_lays2 ⟨Nat.le_trans (Nat.le_of_ble_eq_true rfl) hR.1, Nat.le_trans (Nat.le_of_ble_eq_true rfl) hR.2⟩ rfl hl.1 rfl (Nat.le_of_ble_eq_true rfl) rfl dX4_puts_22 (fun H locs cells slots I => ?_)
      obtain ⟨x2_6, ex2_6, hf⟩ := ol hf
      refine lv_iinc (v := x2_6) (lv' := [(2, .int x2_6), (0, .ref h), (1, .int x1)]) hx hb dX4_puts_25 hl (k := 2) rfl ex2_6 (by decide) rfl (fun ls hl => ?_)
      refine lv_goto (tgt := 2) hx hb dX4_puts_28 (by decide) ?_
      exact ih _ _ _ _ _ _ _ _ I (lv_sub hl [1, 2, 0] rfl) hf
theorem wX4_puts_0 {E : EV} {l : Launch} {p : Program} {e : Env} {s : State} {m : MethodId} {args : Array Value} {below : List Frame} {meth : Method} {c : Code} {R : Room} {h : Nat} {S : St} {res : TS} (hR : 1 ≤ R.frames ∧ 23 ≤ R.locals) (X : MX E p s m args meth c cX4_puts 3 none RX4 "puts") (N : Nat) : ∀ (x1 : Int32) (σ : TS) (H : Heap) (locs : List Loc) (cells slots : Nat) (ls : Array Slot), WI E R s (twS h σ S) H locs cells slots → lv_has ls 3 [(0, .ref h), (1, .int x1)] → fX4_puts N σ x1 = some res → W p l e R s m args below meth c H locs cells slots (MQ below (Qd E R.cells R.slots none (twS h res S)) args s R.cells R.slots (fr E)) (F0 m 0 ls []) := by
  intro x1 σ H locs cells slots ls I hl hf
  obtain ⟨⟨hx, hb, hml, hown, hts⟩, -⟩ := id X
  unfold fX4_puts at hf
  refine lv_iconst (v := 0) hx hb dX4_puts_0 (by decide) ?_
  refine lv_istore_n (lv' := [(2, .int (0 : Int32)), (0, .ref h), (1, .int x1)]) hx hb dX4_puts_1 rfl hl (by decide) rfl (fun ls hl => ?_)
  exact wX4_puts_2 hR X N N _ _ _ _ _ _ _ _ I (lv_sub hl [1, 2, 0] rfl) hf
theorem mX4_puts {E : EV} {l : Launch} {h : Nat} {S : St} {N : Nat} {σ : TS} {x1 : Int32} {res : TS} (hE : EK E) (hf : fX4_puts N σ x1 = some res) : CM E l yX4_puts (ws_ yX4_puts cX4_puts 3 none) 1 23 [.ref h, .int x1] (twS h σ S) none (twS h res S) := by
  refine CM.of hE (by decide) rfl rfl (Nat.le_of_ble_eq_true rfl) ?_
  intro p e s m below meth c X I ls hl
  exact wX4_puts_0 ⟨Nat.le_refl _, Nat.le_refl _⟩ X N _ _ _ _ _ _ _ I hl hf
/-! accept(I)I -/
theorem wX4_accept_0 {E : EV} {l : Launch} {p : Program} {e : Env} {s : State} {m : MethodId} {args : Array Value} {below : List Frame} {meth : Method} {c : Code} {R : Room} {h : Nat} {S : St} {res : (Int32 × TS)} (hR : 5 ≤ R.frames ∧ 125 ≤ R.locals) (X : MX E p s m args meth c cX4_accept 3 (some .int) RX4 "accept") (N : Nat) : ∀ (x1 : Int32) (σ : TS) (H : Heap) (locs : List Loc) (cells slots : Nat) (ls : Array Slot), WI E R s (twS h σ S) H locs cells slots → lv_has ls 3 [(0, .ref h), (1, .int x1)] → fX4_accept N σ x1 = some res → W p l e R s m args below meth c H locs cells slots (MQ below (Qd E R.cells R.slots (some (.int res.1)) (twS h res.2 S)) args s R.cells R.slots (fr E)) (F0 m 0 ls []) := by
  intro x1 σ H locs cells slots ls I hl hf
  obtain ⟨⟨hx, hb, hml, hown, hts⟩, -⟩ := id X
  unfold fX4_accept at hf
  refine lv_aload_n hx hb dX4_accept_0 rfl (lv_at hl 0 rfl) ?_
  refine lv_iconst (v := 0) hx hb dX4_accept_1 (by decide) ?_
  obtain ⟨σ_1, eσ_1, hf⟩ := ol hf
  refine tw_put X I 0 (ty := .int) (by decide) (by decide) rfl q2687 rfl rfl rfl rfl eσ_1 dX4_accept_2 (fun H locs I => ?_)
  refine lv_aload_n hx hb dX4_accept_5 rfl (lv_at hl 0 rfl) ?_
  refine lv_iload_n hx hb dX4_accept_6 rfl (lv_at hl 1 rfl) ?_
  obtain ⟨v_2, ev_2, hf⟩ := ob hf
  refine tw_V (some (.int v_2.1)) (rs := [.int v_2.1]) (rest := []) (As := [.int x1]) X I (mX4_noRide X.2.2.2.2.1 ev_2) lvX4_noRide hdX4_noRide ⟨Nat.le_trans (Nat.le_of_ble_eq_true rfl) hR.1, Nat.le_trans (Nat.le_of_ble_eq_true rfl) hR.2⟩ rfl hl.1 rfl (Nat.le_of_ble_eq_true rfl) rfl dX4_accept_7 (fun H locs cells slots I => ?_)
  refine lv_if_eq (tgt := 15) hx hb dX4_accept_10 (by decide) (fun c_10 => ?_) (fun c_10 => ?_)
  · have hf := ip c_10 hf
    refine lv_aload_n hx hb dX4_accept_15 rfl (lv_at hl 0 rfl) ?_
    refine lv_iload_n hx hb dX4_accept_16 rfl (lv_at hl 1 rfl) ?_
    refine lv_iconst (v := 0) hx hb dX4_accept_17 (by decide) ?_
    obtain ⟨v_4, ev_4, hf⟩ := ob hf
    refine tw_V (some (.int v_4)) (rs := [.int v_4]) (rest := []) (As := [.int x1, .int (0 : Int32)]) X I (mX4_of X.2.2.2.2.1 ev_4) lvX4_of hdX4_of ⟨Nat.le_trans (Nat.le_of_ble_eq_true rfl) hR.1, Nat.le_trans (Nat.le_of_ble_eq_true rfl) hR.2⟩ rfl hl.1 rfl (Nat.le_of_ble_eq_true rfl) rfl dX4_accept_18 (fun H locs cells slots I => ?_)
    refine lv_if_eq (tgt := 27) hx hb dX4_accept_21 (by decide) (fun c_21 => ?_) (fun c_21 => ?_)
    · have hf := ip c_21 hf
      refine lv_aload_n hx hb dX4_accept_27 rfl (lv_at hl 0 rfl) ?_
      refine lv_iload_n hx hb dX4_accept_28 rfl (lv_at hl 1 rfl) ?_
      refine lv_bipush (v := 12) hx hb dX4_accept_29 (by decide) ?_
      obtain ⟨v_6, ev_6, hf⟩ := ob hf
      refine tw_V (some (.int v_6)) (rs := [.int v_6]) (rest := []) (As := [.int x1, .int (12 : Int32)]) X I (mX4_of X.2.2.2.2.1 ev_6) lvX4_of hdX4_of ⟨Nat.le_trans (Nat.le_of_ble_eq_true rfl) hR.1, Nat.le_trans (Nat.le_of_ble_eq_true rfl) hR.2⟩ rfl hl.1 rfl (Nat.le_of_ble_eq_true rfl) rfl dX4_accept_31 (fun H locs cells slots I => ?_)
      refine lv_istore_n (lv' := [(2, .int v_6), (0, .ref h), (1, .int x1)]) hx hb dX4_accept_34 rfl hl (by decide) rfl (fun ls hl => ?_)
      refine lv_aload_n hx hb dX4_accept_35 rfl (lv_at hl 1 rfl) ?_
      refine lv_iload_n hx hb dX4_accept_36 rfl (lv_at hl 0 rfl) ?_
      refine lv_iload_n hx hb dX4_accept_37 rfl (lv_at hl 2 rfl) ?_
      obtain ⟨v_8, ev_8, hf⟩ := ob hf
      refine tw_V (some (.int v_8.1)) (rs := [.int v_8.1]) (rest := []) (As := [.int v_6, .int x1]) X I (mX4_findsBest X.2.2.2.2.1 ev_8) lvX4_findsBest hdX4_findsBest ⟨Nat.le_trans (Nat.le_of_ble_eq_true rfl) hR.1, Nat.le_trans (Nat.le_of_ble_eq_true rfl) hR.2⟩ rfl hl.1 rfl (Nat.le_of_ble_eq_true rfl) rfl dX4_accept_38 (fun H locs cells slots I => ?_)
      refine lv_if_ne (tgt := 47) hx hb dX4_accept_41 (by decide) (fun c_41 => ?_) (fun c_41 => ?_)
      · have hf := im c_41 hf
        refine lv_aload_n hx hb dX4_accept_47 rfl (lv_at hl 1 rfl) ?_
        obtain ⟨σ_11, eσ_11, hf⟩ := ob hf
        refine tw_V none (rs := []) (rest := []) (As := []) X I (mX4_records X.2.2.2.2.1 eσ_11) lvX4_records hdX4_records ⟨Nat.le_trans (Nat.le_of_ble_eq_true rfl) hR.1, Nat.le_trans (Nat.le_of_ble_eq_true rfl) hR.2⟩ rfl hl.1 rfl (Nat.le_of_ble_eq_true rfl) rfl dX4_accept_48 (fun H locs cells slots I => ?_)
        refine lv_aload_n hx hb dX4_accept_51 rfl (lv_at hl 1 rfl) ?_
        refine lv_iload_n hx hb dX4_accept_52 rfl (lv_at hl 0 rfl) ?_
        refine lv_iload_n hx hb dX4_accept_53 rfl (lv_at hl 2 rfl) ?_
        refine lv_aload_n hx hb dX4_accept_54 rfl (lv_at hl 1 rfl) ?_
        refine tw_get X I 43 (v := .int (σ_11.1 0 43)) (by decide) q2730 rfl dX4_accept_55 ?_
        refine lv_aload_n hx hb dX4_accept_58 rfl (lv_at hl 1 rfl) ?_
        refine tw_get X I 44 (v := .int (σ_11.1 0 44)) (by decide) q2731 rfl dX4_accept_59 ?_
        obtain ⟨σ_13, eσ_13, hf⟩ := ob hf
        refine tw_V none (rs := []) (rest := []) (As := [.int v_6, .int x1, .int (σ_11.1 0 43), .int (σ_11.1 0 44)]) X I (mX4_insertsAt X.2.2.2.2.1 eσ_13) lvX4_insertsAt hdX4_insertsAt ⟨Nat.le_trans (Nat.le_of_ble_eq_true rfl) hR.1, Nat.le_trans (Nat.le_of_ble_eq_true rfl) hR.2⟩ rfl hl.1 rfl (Nat.le_of_ble_eq_true rfl) rfl dX4_accept_62 (fun H locs cells slots I => ?_)
        refine lv_aload_n hx hb dX4_accept_65 rfl (lv_at hl 1 rfl) ?_
        refine lv_iload_n hx hb dX4_accept_66 rfl (lv_at hl 0 rfl) ?_
        obtain ⟨σ_15, eσ_15, hf⟩ := ob hf
        refine tw_V none (rs := []) (rest := []) (As := [.int v_6]) X I (mX4_puts X.2.2.2.2.1 eσ_15) lvX4_puts hdX4_puts ⟨Nat.le_trans (Nat.le_of_ble_eq_true rfl) hR.1, Nat.le_trans (Nat.le_of_ble_eq_true rfl) hR.2⟩ rfl hl.1 rfl (Nat.le_of_ble_eq_true rfl) rfl dX4_accept_67 (fun H locs cells slots I => ?_)
        refine lv_aload_n hx hb dX4_accept_70 rfl (lv_at hl 1 rfl) ?_
        refine lv_iload_n hx hb dX4_accept_71 rfl (lv_at hl 2 rfl) ?_
        refine lv_iconst (v := 0) hx hb dX4_accept_72 (by decide) ?_
        refine lv_iconst (v := 1) hx hb dX4_accept_73 (by decide) ?_
        obtain ⟨σ_17, eσ_17, hf⟩ := ob hf
        refine tw_V none (rs := []) (rest := []) (As := [.int x1, .int (0 : Int32), .int (1 : Int32)]) X I (mX4_sets X.2.2.2.2.1 eσ_17) lvX4_sets hdX4_sets ⟨Nat.le_trans (Nat.le_of_ble_eq_true rfl) hR.1, Nat.le_trans (Nat.le_of_ble_eq_true rfl) hR.2⟩ rfl hl.1 rfl (Nat.le_of_ble_eq_true rfl) rfl dX4_accept_74 (fun H locs cells slots I => ?_)
        refine lv_aload_n hx hb dX4_accept_77 rfl (lv_at hl 1 rfl) ?_
        refine lv_iload_n hx hb dX4_accept_78 rfl (lv_at hl 2 rfl) ?_
        refine lv_bipush (v := 7) hx hb dX4_accept_79 (by decide) ?_
        refine lv_iload_n hx hb dX4_accept_81 rfl (lv_at hl 0 rfl) ?_
        obtain ⟨σ_19, eσ_19, hf⟩ := ob hf
        refine tw_V none (rs := []) (rest := []) (As := [.int x1, .int (7 : Int32), .int v_6]) X I (mX4_sets X.2.2.2.2.1 eσ_19) lvX4_sets hdX4_sets ⟨Nat.le_trans (Nat.le_of_ble_eq_true rfl) hR.1, Nat.le_trans (Nat.le_of_ble_eq_true rfl) hR.2⟩ rfl hl.1 rfl (Nat.le_of_ble_eq_true rfl) rfl dX4_accept_82 (fun H locs cells slots I => ?_)
        refine lv_aload_n hx hb dX4_accept_85 rfl (lv_at hl 1 rfl) ?_
        refine tw_get X I 41 (v := .int (σ_19.1 0 41)) (by decide) q2728 rfl dX4_accept_86 ?_
        cases os hf
        exact r_iret X I dX4_accept_89
      · have hf := ip c_41 hf
        refine lv_bipush (v := (-3)) hx hb dX4_accept_44 (by decide) ?_
        cases os hf
        exact r_iret X I dX4_accept_46
    · have hf := im c_21 hf
      refine lv_bipush (v := (-2)) hx hb dX4_accept_24 (by decide) ?_
      cases os hf
      exact r_iret X I dX4_accept_26
  · have hf := im c_10 hf
    refine lv_iconst (v := 0) hx hb dX4_accept_13 (by decide) ?_
    cases os hf
    exact r_iret X I dX4_accept_14
theorem mX4_accept {E : EV} {l : Launch} {h : Nat} {S : St} {N : Nat} {σ : TS} {x1 : Int32} {res : (Int32 × TS)} (hE : EK E) (hf : fX4_accept N σ x1 = some res) : CM E l yX4_accept (ws_ yX4_accept cX4_accept 3 (some .int)) 5 125 [.ref h, .int x1] (twS h σ S) (some (.int res.1)) (twS h res.2 S) := by
  refine CM.of hE (by decide) rfl rfl (Nat.le_of_ble_eq_true rfl) ?_
  intro p e s m below meth c X I ls hl
  exact wX4_accept_0 ⟨Nat.le_refl _, Nat.le_refl _⟩ X N _ _ _ _ _ _ _ I hl hf
/-! decline(I)I -/
theorem wX4_decline_0 {E : EV} {l : Launch} {p : Program} {e : Env} {s : State} {m : MethodId} {args : Array Value} {below : List Frame} {meth : Method} {c : Code} {R : Room} {h : Nat} {S : St} {res : (Int32 × TS)} (hR : 2 ≤ R.frames ∧ 46 ≤ R.locals) (X : MX E p s m args meth c cX4_decline 2 (some .int) RX4 "decline") (N : Nat) : ∀ (x1 : Int32) (σ : TS) (H : Heap) (locs : List Loc) (cells slots : Nat) (ls : Array Slot), WI E R s (twS h σ S) H locs cells slots → lv_has ls 2 [(0, .ref h), (1, .int x1)] → fX4_decline N σ x1 = some res → W p l e R s m args below meth c H locs cells slots (MQ below (Qd E R.cells R.slots (some (.int res.1)) (twS h res.2 S)) args s R.cells R.slots (fr E)) (F0 m 0 ls []) := by
  intro x1 σ H locs cells slots ls I hl hf
  obtain ⟨⟨hx, hb, hml, hown, hts⟩, -⟩ := id X
  unfold fX4_decline at hf
  refine lv_aload_n hx hb dX4_decline_0 rfl (lv_at hl 0 rfl) ?_
  refine lv_iconst (v := 0) hx hb dX4_decline_1 (by decide) ?_
  obtain ⟨σ_1, eσ_1, hf⟩ := ol hf
  refine tw_put X I 0 (ty := .int) (by decide) (by decide) rfl q2687 rfl rfl rfl rfl eσ_1 dX4_decline_2 (fun H locs I => ?_)
  refine lv_aload_n hx hb dX4_decline_5 rfl (lv_at hl 0 rfl) ?_
  refine lv_iload_n hx hb dX4_decline_6 rfl (lv_at hl 1 rfl) ?_
  obtain ⟨v_2, ev_2, hf⟩ := ob hf
  refine tw_V (some (.int v_2.1)) (rs := [.int v_2.1]) (rest := []) (As := [.int x1]) X I (mX4_noRide X.2.2.2.2.1 ev_2) lvX4_noRide hdX4_noRide ⟨Nat.le_trans (Nat.le_of_ble_eq_true rfl) hR.1, Nat.le_trans (Nat.le_of_ble_eq_true rfl) hR.2⟩ rfl hl.1 rfl (Nat.le_of_ble_eq_true rfl) rfl dX4_decline_7 (fun H locs cells slots I => ?_)
  refine lv_if_eq (tgt := 15) hx hb dX4_decline_10 (by decide) (fun c_10 => ?_) (fun c_10 => ?_)
  · have hf := ip c_10 hf
    refine lv_aload_n hx hb dX4_decline_15 rfl (lv_at hl 0 rfl) ?_
    refine lv_iload_n hx hb dX4_decline_16 rfl (lv_at hl 1 rfl) ?_
    refine lv_iconst (v := 0) hx hb dX4_decline_17 (by decide) ?_
    obtain ⟨v_4, ev_4, hf⟩ := ob hf
    refine tw_V (some (.int v_4)) (rs := [.int v_4]) (rest := []) (As := [.int x1, .int (0 : Int32)]) X I (mX4_of X.2.2.2.2.1 ev_4) lvX4_of hdX4_of ⟨Nat.le_trans (Nat.le_of_ble_eq_true rfl) hR.1, Nat.le_trans (Nat.le_of_ble_eq_true rfl) hR.2⟩ rfl hl.1 rfl (Nat.le_of_ble_eq_true rfl) rfl dX4_decline_18 (fun H locs cells slots I => ?_)
    refine lv_if_eq (tgt := 27) hx hb dX4_decline_21 (by decide) (fun c_21 => ?_) (fun c_21 => ?_)
    · have hf := ip c_21 hf
      refine lv_aload_n hx hb dX4_decline_27 rfl (lv_at hl 0 rfl) ?_
      obtain ⟨σ_7, eσ_7, hf⟩ := ob hf
      refine tw_V none (rs := []) (rest := []) (As := []) X I (mX4_records X.2.2.2.2.1 eσ_7) lvX4_records hdX4_records ⟨Nat.le_trans (Nat.le_of_ble_eq_true rfl) hR.1, Nat.le_trans (Nat.le_of_ble_eq_true rfl) hR.2⟩ rfl hl.1 rfl (Nat.le_of_ble_eq_true rfl) rfl dX4_decline_28 (fun H locs cells slots I => ?_)
      refine lv_aload_n hx hb dX4_decline_31 rfl (lv_at hl 0 rfl) ?_
      refine lv_iload_n hx hb dX4_decline_32 rfl (lv_at hl 1 rfl) ?_
      refine lv_iconst (v := 0) hx hb dX4_decline_33 (by decide) ?_
      refine lv_iconst (v := 4) hx hb dX4_decline_34 (by decide) ?_
      obtain ⟨σ_9, eσ_9, hf⟩ := ob hf
      refine tw_V none (rs := []) (rest := []) (As := [.int x1, .int (0 : Int32), .int (4 : Int32)]) X I (mX4_sets X.2.2.2.2.1 eσ_9) lvX4_sets hdX4_sets ⟨Nat.le_trans (Nat.le_of_ble_eq_true rfl) hR.1, Nat.le_trans (Nat.le_of_ble_eq_true rfl) hR.2⟩ rfl hl.1 rfl (Nat.le_of_ble_eq_true rfl) rfl dX4_decline_35 (fun H locs cells slots I => ?_)
      refine lv_aload_n hx hb dX4_decline_38 rfl (lv_at hl 0 rfl) ?_
      refine lv_iconst (v := 0) hx hb dX4_decline_39 (by decide) ?_
      obtain ⟨v_10, ev_10, hf⟩ := ob hf
      refine tw_V (some (.int v_10)) (rs := [.int v_10]) (rest := []) (As := [.int (0 : Int32)]) X I (mX4_ridesIn X.2.2.2.2.1 ev_10) lvX4_ridesIn hdX4_ridesIn ⟨Nat.le_trans (Nat.le_of_ble_eq_true rfl) hR.1, Nat.le_trans (Nat.le_of_ble_eq_true rfl) hR.2⟩ rfl hl.1 rfl (Nat.le_of_ble_eq_true rfl) rfl dX4_decline_40 (fun H locs cells slots I => ?_)
      cases os hf
      exact r_iret X I dX4_decline_43
    · have hf := im c_21 hf
      refine lv_bipush (v := (-2)) hx hb dX4_decline_24 (by decide) ?_
      cases os hf
      exact r_iret X I dX4_decline_26
  · have hf := im c_10 hf
    refine lv_iconst (v := 0) hx hb dX4_decline_13 (by decide) ?_
    cases os hf
    exact r_iret X I dX4_decline_14
theorem mX4_decline {E : EV} {l : Launch} {h : Nat} {S : St} {N : Nat} {σ : TS} {x1 : Int32} {res : (Int32 × TS)} (hE : EK E) (hf : fX4_decline N σ x1 = some res) : CM E l yX4_decline (ws_ yX4_decline cX4_decline 2 (some .int)) 2 46 [.ref h, .int x1] (twS h σ S) (some (.int res.1)) (twS h res.2 S) := by
  refine CM.of hE (by decide) rfl rfl (Nat.le_of_ble_eq_true rfl) ?_
  intro p e s m below meth c X I ls hl
  exact wX4_decline_0 ⟨Nat.le_refl _, Nat.le_refl _⟩ X N _ _ _ _ _ _ _ I hl hf
/-! drops(II)V -/
theorem lvX4_drops : GoodIn lw_all (wsV RX4 411 RX4 yX4_drops (ws_ yX4_drops cX4_drops 6 none)) := lw_V q3176 q3178 qs92 q120 q3179
theorem hdX4_drops : yX4_drops.cls = RX4 ∧ yX4_drops.cls ≠ "java/lang/invoke/MethodHandle" ∧ yX4_drops.cls ≠ "java/lang/invoke/VarHandle" ∧ (parseMethodDescriptor yX4_drops.desc).map (fun d => d.parameters.length) = some 2 := by decide +kernel
theorem wX4_drops_52 {E : EV} {l : Launch} {p : Program} {e : Env} {s : State} {m : MethodId} {args : Array Value} {below : List Frame} {meth : Method} {c : Code} {R : Room} {h : Nat} {S : St} {res : TS} (hR : 1 ≤ R.frames ∧ 23 ≤ R.locals) (X : MX E p s m args meth c cX4_drops 6 none RX4 "drops") (N : Nat) (r5 : Int32 → Int32 → Int32 → Int32 → TS → Option TS) (hr5 : ∀ (x1 : Int32) (x2 : Int32) (x3 : Int32) (x4 : Int32) (σ : TS) (H : Heap) (locs : List Loc) (cells slots : Nat) (ls : Array Slot), WI E R s (twS h σ S) H locs cells slots → lv_has ls 6 [(0, .ref h), (1, .int x1), (2, .int x2), (3, .int x3), (4, .int x4)] → r5 x1 x2 x3 x4 σ = some res → W p l e R s m args below meth c H locs cells slots (MQ below (Qd E R.cells R.slots none (twS h res S)) args s R.cells R.slots (fr E)) (F0 m 5 ls [])) : ∀ (x1 : Int32) (x2 : Int32) (x3 : Int32) (x4 : Int32) (σ : TS) (H : Heap) (locs : List Loc) (cells slots : Nat) (ls : Array Slot), WI E R s (twS h σ S) H locs cells slots → lv_has ls 6 [(0, .ref h), (1, .int x1), (2, .int x2), (3, .int x3), (4, .int x4)] → fX4_drops_52 N r5 x1 x2 x3 x4 σ = some res → W p l e R s m args below meth c H locs cells slots (MQ below (Qd E R.cells R.slots none (twS h res S)) args s R.cells R.slots (fr E)) (F0 m 52 ls []) := by
  intro x1 x2 x3 x4 σ H locs cells slots ls I hl hf
  obtain ⟨⟨hx, hb, hml, hown, hts⟩, -⟩ := id X
  unfold fX4_drops_52 at hf
  obtain ⟨x4_1, ex4_1, hf⟩ := ol hf
  refine lv_iinc (v := x4_1) (lv' := [(4, .int x4_1), (0, .ref h), (1, .int x1), (2, .int x2), (3, .int x3)]) hx hb dX4_drops_52 hl (k := 4) rfl ex4_1 (by decide) rfl (fun ls hl => ?_)
  refine lv_goto (tgt := 5) hx hb dX4_drops_55 (by decide) ?_
  exact hr5 _ _ _ _ _ _ _ _ _ _ I (lv_sub hl [1, 2, 3, 4, 0] rfl) hf
theorem wX4_drops_5 {E : EV} {l : Launch} {p : Program} {e : Env} {s : State} {m : MethodId} {args : Array Value} {below : List Frame} {meth : Method} {c : Code} {R : Room} {h : Nat} {S : St} {res : TS} (hR : 1 ≤ R.frames ∧ 23 ≤ R.locals) (X : MX E p s m args meth c cX4_drops 6 none RX4 "drops") (N : Nat) : ∀ (n : Nat) (x1 : Int32) (x2 : Int32) (x3 : Int32) (x4 : Int32) (σ : TS) (H : Heap) (locs : List Loc) (cells slots : Nat) (ls : Array Slot), WI E R s (twS h σ S) H locs cells slots → lv_has ls 6 [(0, .ref h), (1, .int x1), (2, .int x2), (3, .int x3), (4, .int x4)] → fX4_drops_5 N n x1 x2 x3 x4 σ = some res → W p l e R s m args below meth c H locs cells slots (MQ below (Qd E R.cells R.slots none (twS h res S)) args s R.cells R.slots (fr E)) (F0 m 5 ls []) := by
  intro n
  induction n with
  | zero => intro x1 x2 x3 x4 σ H locs cells slots ls I hl hf; exact nomatch (show none = some res from hf)
  | succ n ih =>
    intro x1 x2 x3 x4 σ H locs cells slots ls I hl hf
    obtain ⟨⟨hx, hb, hml, hown, hts⟩, -⟩ := id X
    rw [fX4_drops_5.eq_2] at hf
    refine lv_iload hx hb dX4_drops_5 (lv_at hl 4 rfl) ?_
    refine lv_aload_n hx hb dX4_drops_7 rfl (lv_at hl 0 rfl) ?_
    refine lv_iload_n hx hb dX4_drops_8 rfl (lv_at hl 1 rfl) ?_
    refine lv_bipush (v := 11) hx hb dX4_drops_9 (by decide) ?_
    obtain ⟨v_2, ev_2, hf⟩ := ob hf
    refine tw_V (some (.int v_2)) (rs := [.int v_2, .int x4]) (rest := [.int x4]) (As := [.int x1, .int (11 : Int32)]) X I (mX4_in2 X.2.2.2.2.1 ev_2) lvX4_in2 hdX4_in2 ⟨Nat.le_trans (Nat.le_of_ble_eq_true rfl) hR.1, Nat.le_trans (Nat.le_of_ble_eq_true rfl) hR.2⟩ rfl hl.1 rfl (Nat.le_of_ble_eq_true rfl) rfl dX4_drops_11 (fun H locs cells slots I => ?_)
    refine lv_icmp_ge (tgt := 58) hx hb dX4_drops_14 (by decide) (fun c_14 => ?_) (fun c_14 => ?_)
    · have hf := ip c_14 hf
      refine lv_aload_n hx hb dX4_drops_58 rfl (lv_at hl 0 rfl) ?_
      refine lv_iload_n hx hb dX4_drops_59 rfl (lv_at hl 1 rfl) ?_
      refine lv_bipush (v := 11) hx hb dX4_drops_60 (by decide) ?_
      refine lv_iload_n hx hb dX4_drops_62 rfl (lv_at hl 3 rfl) ?_
      obtain ⟨σ_5, eσ_5, hf⟩ := ob hf
      refine tw_V none (rs := []) (rest := []) (As := [.int x1, .int (11 : Int32), .int x3]) X I (mX4_lays2 X.2.2.2.2.1 eσ_5) lvX4_lays2 hdX4_lays2 ⟨Nat.le_trans (Nat.le_of_ble_eq_true rfl) hR.1, Nat.le_trans (Nat.le_of_ble_eq_true rfl) hR.2⟩ rfl hl.1 rfl (Nat.le_of_ble_eq_true rfl) rfl dX4_drops_63 (fun H locs cells slots I => ?_)
      cases os hf
      exact r_vret X I dX4_drops_66
    · have hf := im c_14 hf
      refine lv_aload_n hx hb dX4_drops_17 rfl (lv_at hl 0 rfl) ?_
      refine lv_iload_n hx hb dX4_drops_18 rfl (lv_at hl 1 rfl) ?_
      refine lv_bipush (v := 12) hx hb dX4_drops_19 (by decide) ?_
      refine lv_iload hx hb dX4_drops_21 (lv_at hl 4 rfl) ?_
      refine lv_iadd hx hb dX4_drops_23 ?_
      obtain ⟨v_6, ev_6, hf⟩ := ob hf
      refine tw_V (some (.int v_6)) (rs := [.int v_6]) (rest := []) (As := [.int x1, .int ((12 : Int32) + x4)]) X I (mX4_in2 X.2.2.2.2.1 ev_6) lvX4_in2 hdX4_in2 ⟨Nat.le_trans (Nat.le_of_ble_eq_true rfl) hR.1, Nat.le_trans (Nat.le_of_ble_eq_true rfl) hR.2⟩ rfl hl.1 rfl (Nat.le_of_ble_eq_true rfl) rfl dX4_drops_24 (fun H locs cells slots I => ?_)
      refine lv_istore (lv' := [(5, .int v_6), (0, .ref h), (1, .int x1), (2, .int x2), (3, .int x3), (4, .int x4)]) hx hb dX4_drops_27 hl (by decide) rfl (fun ls hl => ?_)
      refine lv_iload hx hb dX4_drops_29 (lv_at hl 0 rfl) ?_
      refine lv_iload_n hx hb dX4_drops_31 rfl (lv_at hl 3 rfl) ?_
      refine lv_icmp_ne (tgt := 38) hx hb dX4_drops_32 (by decide) (fun c_32 => ?_) (fun c_32 => ?_)
      · have hf := im c_32 hf
        refine lv_aload_n hx hb dX4_drops_38 rfl (lv_at hl 1 rfl) ?_
        refine lv_iload_n hx hb dX4_drops_39 rfl (lv_at hl 2 rfl) ?_
        refine lv_bipush (v := 12) hx hb dX4_drops_40 (by decide) ?_
        refine lv_iload_n hx hb dX4_drops_42 rfl (lv_at hl 4 rfl) ?_
        refine lv_iadd hx hb dX4_drops_43 ?_
        refine lv_iload hx hb dX4_drops_44 (lv_at hl 0 rfl) ?_
        obtain ⟨σ_9, eσ_9, hf⟩ := ob hf
        refine tw_V none (rs := []) (rest := []) (As := [.int x1, .int ((12 : Int32) + x3), .int v_6]) X I (mX4_lays2 X.2.2.2.2.1 eσ_9) lvX4_lays2 hdX4_lays2 ⟨Nat.le_trans (Nat.le_of_ble_eq_true rfl) hR.1, Nat.le_trans (Nat.le_of_ble_eq_true rfl) hR.2⟩ rfl hl.1 rfl (Nat.le_of_ble_eq_true rfl) rfl dX4_drops_46 (fun H locs cells slots I => ?_)
        obtain ⟨x3_10, ex3_10, hf⟩ := ol hf
        refine lv_iinc (v := x3_10) (lv' := [(3, .int x3_10), (5, .int v_6), (0, .ref h), (1, .int x1), (2, .int x2), (4, .int x4)]) hx hb dX4_drops_49 hl (k := 4) rfl ex3_10 (by decide) rfl (fun ls hl => ?_)
        exact wX4_drops_52 hR X N (fX4_drops_5 N n) ih _ _ _ _ _ _ _ _ _ _ I (lv_sub hl [2, 3, 4, 0, 5] rfl) hf
      · have hf := ip c_32 hf
        refine lv_goto (tgt := 52) hx hb dX4_drops_35 (by decide) ?_
        exact wX4_drops_52 hR X N (fX4_drops_5 N n) ih _ _ _ _ _ _ _ _ _ _ I (lv_sub hl [1, 2, 3, 4, 5] rfl) hf
theorem wX4_drops_0 {E : EV} {l : Launch} {p : Program} {e : Env} {s : State} {m : MethodId} {args : Array Value} {below : List Frame} {meth : Method} {c : Code} {R : Room} {h : Nat} {S : St} {res : TS} (hR : 1 ≤ R.frames ∧ 23 ≤ R.locals) (X : MX E p s m args meth c cX4_drops 6 none RX4 "drops") (N : Nat) : ∀ (x1 : Int32) (x2 : Int32) (σ : TS) (H : Heap) (locs : List Loc) (cells slots : Nat) (ls : Array Slot), WI E R s (twS h σ S) H locs cells slots → lv_has ls 6 [(0, .ref h), (1, .int x1), (2, .int x2)] → fX4_drops N σ x1 x2 = some res → W p l e R s m args below meth c H locs cells slots (MQ below (Qd E R.cells R.slots none (twS h res S)) args s R.cells R.slots (fr E)) (F0 m 0 ls []) := by
  intro x1 x2 σ H locs cells slots ls I hl hf
  obtain ⟨⟨hx, hb, hml, hown, hts⟩, -⟩ := id X
  unfold fX4_drops at hf
  refine lv_iconst (v := 0) hx hb dX4_drops_0 (by decide) ?_
  refine lv_istore_n (lv' := [(3, .int (0 : Int32)), (0, .ref h), (1, .int x1), (2, .int x2)]) hx hb dX4_drops_1 rfl hl (by decide) rfl (fun ls hl => ?_)
  refine lv_iconst (v := 0) hx hb dX4_drops_2 (by decide) ?_
  refine lv_istore (lv' := [(4, .int (0 : Int32)), (3, .int (0 : Int32)), (0, .ref h), (1, .int x1), (2, .int x2)]) hx hb dX4_drops_3 hl (by decide) rfl (fun ls hl => ?_)
  exact wX4_drops_5 hR X N N _ _ _ _ _ _ _ _ _ _ I (lv_sub hl [2, 3, 4, 1, 0] rfl) hf
theorem mX4_drops {E : EV} {l : Launch} {h : Nat} {S : St} {N : Nat} {σ : TS} {x1 : Int32} {x2 : Int32} {res : TS} (hE : EK E) (hf : fX4_drops N σ x1 x2 = some res) : CM E l yX4_drops (ws_ yX4_drops cX4_drops 6 none) 1 23 [.ref h, .int x1, .int x2] (twS h σ S) none (twS h res S) := by
  refine CM.of hE (by decide) rfl rfl (Nat.le_of_ble_eq_true rfl) ?_
  intro p e s m below meth c X I ls hl
  exact wX4_drops_0 ⟨Nat.le_refl _, Nat.le_refl _⟩ X N _ _ _ _ _ _ _ _ I hl hf
