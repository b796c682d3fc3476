/-! walks over the abstract heap (printed by gen/gwalk.py) -/
set_option maxRecDepth 100000
/-! java/lang/Integer.getChars(II[B)I imp=True fuel=True kap=True rt=I thr=False -/
def fJ18_getChars_104 (N : Nat) (κ : Nat → Nat) (x2 : Nat) (x5 : Int32) (x6 : Int32) (σ : St) : Option (Int32 × St) := if x6 = 0 then some (x5, σ) else lt (x5 + (-1)) fun x5_1 : Int32 => (sI σ x2 1 x5_1 ((45 : Int32).toInt8.toInt32)).bind fun σ_2 : St => some (x5_1, σ_2)
def fJ18_getChars_22 (N : Nat) (κ : Nat → Nat) : Nat → Int32 → Nat → Int32 → Int32 → St → Option (Int32 × St)
  | 0, _, _, _, _, _ => none
  | n + 1, x0, x2, x5, x6, σ => if (-100 : Int32) < x0 then lt (x5 + (-1)) fun x5_3 : Int32 => (aI σ (κ 3) 1 (-x0)).bind fun v_4 : Int32 => (sI σ x2 1 x5_3 (v_4.toInt8.toInt32)).bind fun σ_5 : St => if (-9 : Int32) ≤ x0 then fJ18_getChars_104 N κ x2 x5_3 x6 σ_5 else lt (x5_3 + (-1)) fun x5_6 : Int32 => (aI σ_5 (κ 4) 1 (-x0)).bind fun v_7 : Int32 => (sI σ_5 x2 1 x5_6 (v_7.toInt8.toInt32)).bind fun σ_8 : St => fJ18_getChars_104 N κ x2 x5_6 x6 σ_8 else lt (x0 / (100 : Int32)) fun x3_9 : Int32 => lt ((x3_9 * (100 : Int32)) - x0) fun x4_10 : Int32 => lt (x5 + (-1)) fun x5_11 : Int32 => (aI σ (κ 3) 1 x4_10).bind fun v_12 : Int32 => (sI σ x2 1 x5_11 (v_12.toInt8.toInt32)).bind fun σ_13 : St => lt (x5_11 + (-1)) fun x5_14 : Int32 => (aI σ_13 (κ 4) 1 x4_10).bind fun v_15 : Int32 => (sI σ_13 x2 1 x5_14 (v_15.toInt8.toInt32)).bind fun σ_16 : St => fJ18_getChars_22 N κ n x3_9 x2 x5_14 x6 σ_16
def fJ18_getChars_12 (N : Nat) (κ : Nat → Nat) (x0 : Int32) (x2 : Nat) (x5 : Int32) (y0 : Int32) (σ : St) : Option (Int32 × St) := if y0 = 0 then lt (-x0) fun x0_17 : Int32 => fJ18_getChars_22 N κ N x0_17 x2 x5 y0 σ else fJ18_getChars_22 N κ N x0 x2 x5 y0 σ
def fJ18_getChars (N : Nat) (κ : Nat → Nat) (σ : St) (x0 : Int32) (x1 : Int32) (x2 : Nat) : Option (Int32 × St) := if 0 ≤ x0 then fJ18_getChars_12 N κ x0 x2 x1 (0 : Int32) σ else fJ18_getChars_12 N κ x0 x2 x1 (1 : Int32) σ
theorem wJ18_getChars_104 {E : EV} {l : Launch} {p : Program} {e : Env} {s : State} {m : MethodId} {args : Array Value} {below : List Frame} {meth : Method} {c : Code} {R : Room} {res : (Int32 × St)} (hX : XK E) (hR : 0 ≤ R.frames ∧ 0 ≤ R.locals) (X : MX E p s m args meth c cJ18_getChars 7 (some .int) RJ18 "getChars") (N : Nat) : ∀ (x2 : Nat) (x5 : Int32) (x6 : Int32) (σ : St) (H : Heap) (locs : List Loc) (cells slots : Nat) (ls : Array Slot), WI E R s σ H locs cells slots → lv_has ls 7 [(2, .ref x2), (5, .int x5), (6, .int x6)] → fJ18_getChars_104 N E.2.2.2.1 x2 x5 x6 σ = some res → W p l e R s m args below meth c H locs cells slots (MQ below (Qd E R.cells R.slots (some (.int res.1)) res.2) args s R.cells R.slots (fr E)) (F0 m 104 ls []) := by
  intro x2 x5 x6 σ H locs cells slots ls I hl hf
  obtain ⟨⟨hx, hb, hml, hown, hts⟩, -⟩ := id X
  unfold fJ18_getChars_104 at hf
  refine lv_iload hx hb dJ18_getChars_104 (lv_at hl 2 rfl) ?_
  refine lv_if_eq (tgt := 118) hx hb dJ18_getChars_106 (by decide) (fun c_106 => ?_) (fun c_106 => ?_)
  · have hf := ip c_106 hf
    refine lv_iload hx hb dJ18_getChars_118 (lv_at hl 1 rfl) ?_
    cases os hf
    exact r_iret X I dJ18_getChars_120
  · have hf := im c_106 hf
    refine lv_aload_n hx hb dJ18_getChars_109 rfl (lv_at hl 0 rfl) ?_
    obtain ⟨x5_1, ex5_1, hf⟩ := ol hf
    refine lv_iinc (v := x5_1) (lv' := [(5, .int x5_1), (2, .ref x2), (6, .int x6)]) hx hb dJ18_getChars_110 hl (k := 1) rfl ex5_1 (by decide) rfl (fun ls hl => ?_)
    refine lv_iload hx hb dJ18_getChars_113 (lv_at hl 0 rfl) ?_
    refine lv_bipush (v := 45) hx hb dJ18_getChars_115 (by decide) ?_
    obtain ⟨σ_2, eσ_2, hf⟩ := ob hf
    refine g_bast X I rfl eσ_2 dJ18_getChars_117 (fun H locs I => ?_)
    refine lv_iload hx hb dJ18_getChars_118 (lv_at hl 0 rfl) ?_
    cases os hf
    exact r_iret X I dJ18_getChars_120
theorem wJ18_getChars_22 {E : EV} {l : Launch} {p : Program} {e : Env} {s : State} {m : MethodId} {args : Array Value} {below : List Frame} {meth : Method} {c : Code} {R : Room} {res : (Int32 × St)} (hX : XK E) (hR : 0 ≤ R.frames ∧ 0 ≤ R.locals) (X : MX E p s m args meth c cJ18_getChars 7 (some .int) RJ18 "getChars") (N : Nat) : ∀ (n : Nat) (x0 : Int32) (x2 : Nat) (x5 : Int32) (x6 : Int32) (σ : St) (H : Heap) (locs : List Loc) (cells slots : Nat) (ls : Array Slot), WI E R s σ H locs cells slots → lv_has ls 7 [(0, .int x0), (2, .ref x2), (5, .int x5), (6, .int x6)] → fJ18_getChars_22 N E.2.2.2.1 n x0 x2 x5 x6 σ = some res → W p l e R s m args below meth c H locs cells slots (MQ below (Qd E R.cells R.slots (some (.int res.1)) res.2) args s R.cells R.slots (fr E)) (F0 m 22 ls []) := by
  intro n
  induction n with
  | zero => intro x0 x2 x5 x6 σ H locs cells slots ls I hl hf; exact nomatch (show none = some res from hf)
  | succ n ih =>
    intro x0 x2 x5 x6 σ H locs cells slots ls I hl hf
    obtain ⟨⟨hx, hb, hml, hown, hts⟩, -⟩ := id X
    rw [fJ18_getChars_22.eq_2] at hf
    refine lv_iload_n hx hb dJ18_getChars_22 rfl (lv_at hl 0 rfl) ?_
    refine lv_bipush (v := (-100)) hx hb dJ18_getChars_23 (by decide) ?_
    refine lv_icmp_gt (tgt := 72) hx hb dJ18_getChars_25 (by decide) (fun c_25 => ?_) (fun c_25 => ?_)
    · have hf := ip c_25 hf
      refine lv_aload_n hx hb dJ18_getChars_72 rfl (lv_at hl 1 rfl) ?_
      obtain ⟨x5_3, ex5_3, hf⟩ := ol hf
      refine lv_iinc (v := x5_3) (lv' := [(5, .int x5_3), (0, .int x0), (2, .ref x2), (6, .int x6)]) hx hb dJ18_getChars_73 hl (k := 2) rfl ex5_3 (by decide) rfl (fun ls hl => ?_)
      refine lv_iload hx hb dJ18_getChars_76 (lv_at hl 0 rfl) ?_
      refine g_gets (ref := "java/lang/Integer") (w := .ref (E.2.2.2.1 3)) hX X I (List.mem_of_getElem? (i := 5) rfl) rfl q672 dJ18_getChars_78 ?_
      refine lv_iload_n hx hb dJ18_getChars_81 rfl (lv_at hl 1 rfl) ?_
      refine lv_ineg hx hb dJ18_getChars_82 ?_
      obtain ⟨v_4, ev_4, hf⟩ := ob hf
      refine g_bald X I ev_4 dJ18_getChars_83 ?_
      obtain ⟨σ_5, eσ_5, hf⟩ := ob hf
      refine g_bast X I rfl eσ_5 dJ18_getChars_84 (fun H locs I => ?_)
      refine lv_iload_n hx hb dJ18_getChars_85 rfl (lv_at hl 1 rfl) ?_
      refine lv_bipush (v := (-9)) hx hb dJ18_getChars_86 (by decide) ?_
      refine lv_icmp_ge (tgt := 104) hx hb dJ18_getChars_88 (by decide) (fun c_88 => ?_) (fun c_88 => ?_)
      · have hf := ip c_88 hf
        exact wJ18_getChars_104 hX hR X N x2 x5_3 x6 σ_5 _ _ _ _ _ I (lv_sub hl [2, 0, 3] rfl) hf
      · have hf := im c_88 hf
        refine lv_aload_n hx hb dJ18_getChars_91 rfl (lv_at hl 2 rfl) ?_
        obtain ⟨x5_6, ex5_6, hf⟩ := ol hf
        refine lv_iinc (v := x5_6) (lv' := [(5, .int x5_6), (0, .int x0), (2, .ref x2), (6, .int x6)]) hx hb dJ18_getChars_92 hl (k := 0) rfl ex5_6 (by decide) rfl (fun ls hl => ?_)
        refine lv_iload hx hb dJ18_getChars_95 (lv_at hl 0 rfl) ?_
        refine g_gets (ref := "java/lang/Integer") (w := .ref (E.2.2.2.1 4)) hX X I (List.mem_of_getElem? (i := 6) rfl) rfl q674 dJ18_getChars_97 ?_
        refine lv_iload_n hx hb dJ18_getChars_100 rfl (lv_at hl 1 rfl) ?_
        refine lv_ineg hx hb dJ18_getChars_101 ?_
        obtain ⟨v_7, ev_7, hf⟩ := ob hf
        refine g_bald X I ev_7 dJ18_getChars_102 ?_
        obtain ⟨σ_8, eσ_8, hf⟩ := ob hf
        refine g_bast X I rfl eσ_8 dJ18_getChars_103 (fun H locs I => ?_)
        exact wJ18_getChars_104 hX hR X N x2 x5_6 x6 σ_8 _ _ _ _ _ I (lv_sub hl [2, 0, 3] rfl) hf
    · have hf := im c_25 hf
      refine lv_iload_n hx hb dJ18_getChars_28 rfl (lv_at hl 0 rfl) ?_
      refine lv_bipush (v := 100) hx hb dJ18_getChars_29 (by decide) ?_
      refine lv_idiv hx hb dJ18_getChars_31 (by decide) ?_
      obtain ⟨x3_9, ex3_9, hf⟩ := ol hf
      refine nm_i ex3_9 ?_
      refine lv_istore_n (lv' := [(3, .int x3_9), (0, .int x0), (2, .ref x2), (5, .int x5), (6, .int x6)]) hx hb dJ18_getChars_32 rfl hl (by decide) rfl (fun ls hl => ?_)
      refine lv_iload_n hx hb dJ18_getChars_33 rfl (lv_at hl 0 rfl) ?_
      refine lv_bipush (v := 100) hx hb dJ18_getChars_34 (by decide) ?_
      refine lv_imul hx hb dJ18_getChars_36 ?_
      refine lv_iload_n hx hb dJ18_getChars_37 rfl (lv_at hl 1 rfl) ?_
      refine lv_isub hx hb dJ18_getChars_38 ?_
      obtain ⟨x4_10, ex4_10, hf⟩ := ol hf
      refine nm_i ex4_10 ?_
      refine lv_istore (lv' := [(4, .int x4_10), (3, .int x3_9), (0, .int x0), (2, .ref x2), (5, .int x5), (6, .int x6)]) hx hb dJ18_getChars_39 hl (by decide) rfl (fun ls hl => ?_)
      refine lv_iload_n hx hb dJ18_getChars_41 rfl (lv_at hl 1 rfl) ?_
      refine lv_istore_n (lv' := [(0, .int x3_9), (4, .int x4_10), (3, .int x3_9), (2, .ref x2), (5, .int x5), (6, .int x6)]) hx hb dJ18_getChars_42 rfl hl (by decide) rfl (fun ls hl => ?_)
      refine lv_aload_n hx hb dJ18_getChars_43 rfl (lv_at hl 3 rfl) ?_
      obtain ⟨x5_11, ex5_11, hf⟩ := ol hf
      refine lv_iinc (v := x5_11) (lv' := [(5, .int x5_11), (0, .int x3_9), (4, .int x4_10), (3, .int x3_9), (2, .ref x2), (6, .int x6)]) hx hb dJ18_getChars_44 hl (k := 4) rfl ex5_11 (by decide) rfl (fun ls hl => ?_)
      refine lv_iload hx hb dJ18_getChars_47 (lv_at hl 0 rfl) ?_
      refine g_gets (ref := "java/lang/Integer") (w := .ref (E.2.2.2.1 3)) hX X I (List.mem_of_getElem? (i := 5) rfl) rfl q672 dJ18_getChars_49 ?_
      refine lv_iload hx hb dJ18_getChars_52 (lv_at hl 2 rfl) ?_
      obtain ⟨v_12, ev_12, hf⟩ := ob hf
      refine g_bald X I ev_12 dJ18_getChars_54 ?_
      obtain ⟨σ_13, eσ_13, hf⟩ := ob hf
      refine g_bast X I rfl eσ_13 dJ18_getChars_55 (fun H locs I => ?_)
      refine lv_aload_n hx hb dJ18_getChars_56 rfl (lv_at hl 4 rfl) ?_
      obtain ⟨x5_14, ex5_14, hf⟩ := ol hf
      refine lv_iinc (v := x5_14) (lv' := [(5, .int x5_14), (0, .int x3_9), (4, .int x4_10), (3, .int x3_9), (2, .ref x2), (6, .int x6)]) hx hb dJ18_getChars_57 hl (k := 0) rfl ex5_14 (by decide) rfl (fun ls hl => ?_)
      refine lv_iload hx hb dJ18_getChars_60 (lv_at hl 0 rfl) ?_
      refine g_gets (ref := "java/lang/Integer") (w := .ref (E.2.2.2.1 4)) hX X I (List.mem_of_getElem? (i := 6) rfl) rfl q674 dJ18_getChars_62 ?_
      refine lv_iload hx hb dJ18_getChars_65 (lv_at hl 2 rfl) ?_
      obtain ⟨v_15, ev_15, hf⟩ := ob hf
      refine g_bald X I ev_15 dJ18_getChars_67 ?_
      obtain ⟨σ_16, eσ_16, hf⟩ := ob hf
      refine g_bast X I rfl eσ_16 dJ18_getChars_68 (fun H locs I => ?_)
      refine lv_goto (tgt := 22) hx hb dJ18_getChars_69 (by decide) ?_
      exact ih x3_9 x2 x5_14 x6 σ_16 _ _ _ _ _ I (lv_sub hl [1, 4, 0, 5] rfl) hf
theorem wJ18_getChars_12 {E : EV} {l : Launch} {p : Program} {e : Env} {s : State} {m : MethodId} {args : Array Value} {below : List Frame} {meth : Method} {c : Code} {R : Room} {res : (Int32 × St)} (hX : XK E) (hR : 0 ≤ R.frames ∧ 0 ≤ R.locals) (X : MX E p s m args meth c cJ18_getChars 7 (some .int) RJ18 "getChars") (N : Nat) : ∀ (x0 : Int32) (x2 : Nat) (x5 : Int32) (y0 : Int32) (σ : St) (H : Heap) (locs : List Loc) (cells slots : Nat) (ls : Array Slot), WI E R s σ H locs cells slots → lv_has ls 7 [(0, .int x0), (2, .ref x2), (5, .int x5)] → fJ18_getChars_12 N E.2.2.2.1 x0 x2 x5 y0 σ = some res → W p l e R s m args below meth c H locs cells slots (MQ below (Qd E R.cells R.slots (some (.int res.1)) res.2) args s R.cells R.slots (fr E)) (F0 m 12 ls [.int y0]) := by
  intro x0 x2 x5 y0 σ H locs cells slots ls I hl hf
  obtain ⟨⟨hx, hb, hml, hown, hts⟩, -⟩ := id X
  unfold fJ18_getChars_12 at hf
  refine lv_istore (lv' := [(6, .int y0), (0, .int x0), (2, .ref x2), (5, .int x5)]) hx hb dJ18_getChars_12 hl (by decide) rfl (fun ls hl => ?_)
  refine lv_iload hx hb dJ18_getChars_14 (lv_at hl 0 rfl) ?_
  refine lv_if_ne (tgt := 22) hx hb dJ18_getChars_16 (by decide) (fun c_16 => ?_) (fun c_16 => ?_)
  · have hf := im c_16 hf
    exact wJ18_getChars_22 hX hR X N N x0 x2 x5 y0 σ _ _ _ _ _ I (lv_sub hl [1, 2, 3, 0] rfl) hf
  · have hf := ip c_16 hf
    refine lv_iload_n hx hb dJ18_getChars_19 rfl (lv_at hl 1 rfl) ?_
    refine lv_ineg hx hb dJ18_getChars_20 ?_
    obtain ⟨x0_17, ex0_17, hf⟩ := ol hf
    refine nm_i ex0_17 ?_
    refine lv_istore_n (lv' := [(0, .int x0_17), (6, .int y0), (2, .ref x2), (5, .int x5)]) hx hb dJ18_getChars_21 rfl hl (by decide) rfl (fun ls hl => ?_)
    exact wJ18_getChars_22 hX hR X N N x0_17 x2 x5 y0 σ _ _ _ _ _ I (lv_sub hl [0, 2, 3, 1] rfl) hf
theorem wJ18_getChars_0 {E : EV} {l : Launch} {p : Program} {e : Env} {s : State} {m : MethodId} {args : Array Value} {below : List Frame} {meth : Method} {c : Code} {R : Room} {res : (Int32 × St)} (hX : XK E) (hR : 0 ≤ R.frames ∧ 0 ≤ R.locals) (X : MX E p s m args meth c cJ18_getChars 7 (some .int) RJ18 "getChars") (N : Nat) : ∀ (x0 : Int32) (x1 : Int32) (x2 : Nat) (σ : St) (H : Heap) (locs : List Loc) (cells slots : Nat) (ls : Array Slot), WI E R s σ H locs cells slots → lv_has ls 7 [(0, .int x0), (1, .int x1), (2, .ref x2)] → fJ18_getChars N E.2.2.2.1 σ x0 x1 x2 = some res → W p l e R s m args below meth c H locs cells slots (MQ below (Qd E R.cells R.slots (some (.int res.1)) res.2) args s R.cells R.slots (fr E)) (F0 m 0 ls []) := by
  intro x0 x1 x2 σ H locs cells slots ls I hl hf
  obtain ⟨⟨hx, hb, hml, hown, hts⟩, -⟩ := id X
  unfold fJ18_getChars at hf
  refine lv_iload_n hx hb dJ18_getChars_0 rfl (lv_at hl 1 rfl) ?_
  refine lv_istore (lv' := [(5, .int x1), (0, .int x0), (1, .int x1), (2, .ref x2)]) hx hb dJ18_getChars_1 hl (by decide) rfl (fun ls hl => ?_)
  refine lv_iload_n hx hb dJ18_getChars_3 rfl (lv_at hl 1 rfl) ?_
  refine lv_if_ge (tgt := 11) hx hb dJ18_getChars_4 (by decide) (fun c_4 => ?_) (fun c_4 => ?_)
  · have hf := ip c_4 hf
    refine lv_iconst (v := 0) hx hb dJ18_getChars_11 (by decide) ?_
    exact wJ18_getChars_12 hX hR X N x0 x2 x1 (0 : Int32) σ _ _ _ _ _ I (lv_sub hl [1, 3, 0] rfl) hf
  · have hf := im c_4 hf
    refine lv_iconst (v := 1) hx hb dJ18_getChars_7 (by decide) ?_
    refine lv_goto (tgt := 12) hx hb dJ18_getChars_8 (by decide) ?_
    exact wJ18_getChars_12 hX hR X N x0 x2 x1 (1 : Int32) σ _ _ _ _ _ I (lv_sub hl [1, 3, 0] rfl) hf
theorem mJ18_getChars {E : EV} {l : Launch} {N : Nat} {σ : St} {x0 : Int32} {x1 : Int32} {x2 : Nat} {res : (Int32 × St)} (hX : XK E) (hf : fJ18_getChars N E.2.2.2.1 σ x0 x1 x2 = some res) : CM E l yJ18_getChars (ws_ yJ18_getChars cJ18_getChars 7 (some .int)) 0 0 [.int x0, .int x1, .ref x2] σ (some (.int res.1)) res.2 := by
  refine CM.of hX.1 (by decide) rfl rfl (Nat.le_of_ble_eq_true rfl) ?_
  intro p e s m below meth c X I ls hl
  exact wJ18_getChars_0 hX ⟨Nat.le_refl _, Nat.le_refl _⟩ X N _ _ _ _ _ _ _ _ _ I hl hf
/-! java/lang/StringUTF16.getChars(II[B)I imp=False fuel=True kap=True rt=I thr=False -/
def fJ11_getChars_2_112 (N : Nat) (κ : Nat → Nat) (σ : St) (x2 : Nat) (x5 : Int32) (x6 : Int32) : Option Int32 := if x6 = 0 then some x5 else lt (x5 + (-1)) fun x5_1 : Int32 => (fJ11_putChar σ x2 x5_1 (45 : Int32)).bind fun v_2 : Unit => some x5_1
def fJ11_getChars_2_22 (N : Nat) (κ : Nat → Nat) (σ : St) : Nat → Int32 → Nat → Int32 → Int32 → Option Int32
  | 0, _, _, _, _ => none
  | n + 1, x0, x2, x5, x6 => if (-100 : Int32) < x0 then lt (x5 + (-1)) fun x5_4 : Int32 => (aI σ (κ 3) 1 (-x0)).bind fun v_5 : Int32 => (fJ11_putChar σ x2 x5_4 v_5).bind fun v_6 : Unit => if (-9 : Int32) ≤ x0 then fJ11_getChars_2_112 N κ σ x2 x5_4 x6 else lt (x5_4 + (-1)) fun x5_8 : Int32 => (aI σ (κ 4) 1 (-x0)).bind fun v_9 : Int32 => (fJ11_putChar σ x2 x5_8 v_9).bind fun v_10 : Unit => fJ11_getChars_2_112 N κ σ x2 x5_8 x6 else lt (x0 / (100 : Int32)) fun x3_12 : Int32 => lt ((x3_12 * (100 : Int32)) - x0) fun x4_13 : Int32 => lt (x5 + (-1)) fun x5_14 : Int32 => (aI σ (κ 3) 1 x4_13).bind fun v_15 : Int32 => (fJ11_putChar σ x2 x5_14 v_15).bind fun v_16 : Unit => lt (x5_14 + (-1)) fun x5_18 : Int32 => (aI σ (κ 4) 1 x4_13).bind fun v_19 : Int32 => (fJ11_putChar σ x2 x5_18 v_19).bind fun v_20 : Unit => fJ11_getChars_2_22 N κ σ n x3_12 x2 x5_18 x6
def fJ11_getChars_2_12 (N : Nat) (κ : Nat → Nat) (σ : St) (x0 : Int32) (x2 : Nat) (x5 : Int32) (y0 : Int32) : Option Int32 := if y0 = 0 then lt (-x0) fun x0_22 : Int32 => fJ11_getChars_2_22 N κ σ N x0_22 x2 x5 y0 else fJ11_getChars_2_22 N κ σ N x0 x2 x5 y0
def fJ11_getChars_2 (N : Nat) (κ : Nat → Nat) (σ : St) (x0 : Int32) (x1 : Int32) (x2 : Nat) : Option Int32 := if 0 ≤ x0 then fJ11_getChars_2_12 N κ σ x0 x2 x1 (0 : Int32) else fJ11_getChars_2_12 N κ σ x0 x2 x1 (1 : Int32)
theorem wJ11_getChars_2_112 {E : EV} {l : Launch} {p : Program} {e : Env} {s : State} {m : MethodId} {args : Array Value} {below : List Frame} {meth : Method} {c : Code} {R : Room} {σ : St} {res : Int32} (hX : XK E) (hR : 2 ≤ R.frames ∧ 42 ≤ R.locals) (X : MX E p s m args meth c cJ11_getChars_2 7 (some .int) RJ11 "getChars") (N : Nat) : ∀ (x2 : Nat) (x5 : Int32) (x6 : Int32) (H : Heap) (locs : List Loc) (cells slots : Nat) (ls : Array Slot), WI E R s σ H locs cells slots → lv_has ls 7 [(2, .ref x2), (5, .int x5), (6, .int x6)] → fJ11_getChars_2_112 N E.2.2.2.1 σ x2 x5 x6 = some res → W p l e R s m args below meth c H locs cells slots (MQ below (Qd E R.cells R.slots (some (.int res)) σ) args s R.cells R.slots (fr E)) (F0 m 112 ls []) := by
  intro x2 x5 x6 H locs cells slots ls I hl hf
  obtain ⟨⟨hx, hb, hml, hown, hts⟩, -⟩ := id X
  unfold fJ11_getChars_2_112 at hf
  refine lv_iload hx hb dJ11_getChars_2_112 (lv_at hl 2 rfl) ?_
  refine lv_if_eq (tgt := 128) hx hb dJ11_getChars_2_114 (by decide) (fun c_114 => ?_) (fun c_114 => ?_)
  · have hf := ip c_114 hf
    refine lv_iload hx hb dJ11_getChars_2_128 (lv_at hl 1 rfl) ?_
    cases os hf
    exact r_iret X I dJ11_getChars_2_130
  · have hf := im c_114 hf
    refine lv_aload_n hx hb dJ11_getChars_2_117 rfl (lv_at hl 0 rfl) ?_
    obtain ⟨x5_1, ex5_1, hf⟩ := ol hf
    refine lv_iinc (v := x5_1) (lv' := [(5, .int x5_1), (2, .ref x2), (6, .int x6)]) hx hb dJ11_getChars_2_118 hl (k := 1) rfl ex5_1 (by decide) rfl (fun ls hl => ?_)
    refine lv_iload hx hb dJ11_getChars_2_121 (lv_at hl 0 rfl) ?_
    refine lv_bipush (v := 45) hx hb dJ11_getChars_2_123 (by decide) ?_
    obtain ⟨v_2, ev_2, hf⟩ := ob hf
    refine cg_S (r := none) (σ' := σ) (rs := []) (rest := []) (As := [.ref x2, .int x5_1, .int (45 : Int32)]) X I (mJ11_putChar hX ev_2) lvJ11_111 hdJ11_111 ⟨Nat.le_trans (Nat.le_of_ble_eq_true rfl) hR.1, Nat.le_trans (Nat.le_of_ble_eq_true rfl) hR.2⟩ rfl hl.1 rfl (Nat.le_of_ble_eq_true rfl) rfl dJ11_getChars_2_125 (fun H locs cells slots I => ?_)
    refine lv_iload hx hb dJ11_getChars_2_128 (lv_at hl 0 rfl) ?_
    cases os hf
    exact r_iret X I dJ11_getChars_2_130
theorem wJ11_getChars_2_22 {E : EV} {l : Launch} {p : Program} {e : Env} {s : State} {m : MethodId} {args : Array Value} {below : List Frame} {meth : Method} {c : Code} {R : Room} {σ : St} {res : Int32} (hX : XK E) (hR : 2 ≤ R.frames ∧ 42 ≤ R.locals) (X : MX E p s m args meth c cJ11_getChars_2 7 (some .int) RJ11 "getChars") (N : Nat) : ∀ (n : Nat) (x0 : Int32) (x2 : Nat) (x5 : Int32) (x6 : Int32) (H : Heap) (locs : List Loc) (cells slots : Nat) (ls : Array Slot), WI E R s σ H locs cells slots → lv_has ls 7 [(0, .int x0), (2, .ref x2), (5, .int x5), (6, .int x6)] → fJ11_getChars_2_22 N E.2.2.2.1 σ n x0 x2 x5 x6 = some res → W p l e R s m args below meth c H locs cells slots (MQ below (Qd E R.cells R.slots (some (.int res)) σ) args s R.cells R.slots (fr E)) (F0 m 22 ls []) := by
  intro n
  induction n with
  | zero => intro x0 x2 x5 x6 H locs cells slots ls I hl hf; exact nomatch (show none = some res from hf)
  | succ n ih =>
    intro x0 x2 x5 x6 H locs cells slots ls I hl hf
    obtain ⟨⟨hx, hb, hml, hown, hts⟩, -⟩ := id X
    rw [fJ11_getChars_2_22.eq_2] at hf
    refine lv_iload_n hx hb dJ11_getChars_2_22 rfl (lv_at hl 0 rfl) ?_
    refine lv_bipush (v := (-100)) hx hb dJ11_getChars_2_23 (by decide) ?_
    refine lv_icmp_gt (tgt := 76) hx hb dJ11_getChars_2_25 (by decide) (fun c_25 => ?_) (fun c_25 => ?_)
    · have hf := ip c_25 hf
      refine lv_aload_n hx hb dJ11_getChars_2_76 rfl (lv_at hl 1 rfl) ?_
      obtain ⟨x5_4, ex5_4, hf⟩ := ol hf
      refine lv_iinc (v := x5_4) (lv' := [(5, .int x5_4), (0, .int x0), (2, .ref x2), (6, .int x6)]) hx hb dJ11_getChars_2_77 hl (k := 2) rfl ex5_4 (by decide) rfl (fun ls hl => ?_)
      refine lv_iload hx hb dJ11_getChars_2_80 (lv_at hl 0 rfl) ?_
      refine g_gets (ref := "java/lang/Integer") (w := .ref (E.2.2.2.1 3)) hX X I (List.mem_of_getElem? (i := 5) rfl) rfl q682 dJ11_getChars_2_82 ?_
      refine lv_iload_n hx hb dJ11_getChars_2_85 rfl (lv_at hl 1 rfl) ?_
      refine lv_ineg hx hb dJ11_getChars_2_86 ?_
      obtain ⟨v_5, ev_5, hf⟩ := ob hf
      refine g_bald X I ev_5 dJ11_getChars_2_87 ?_
      obtain ⟨v_6, ev_6, hf⟩ := ob hf
      refine cg_S (r := none) (σ' := σ) (rs := []) (rest := []) (As := [.ref x2, .int x5_4, .int v_5]) X I (mJ11_putChar hX ev_6) lvJ11_111 hdJ11_111 ⟨Nat.le_trans (Nat.le_of_ble_eq_true rfl) hR.1, Nat.le_trans (Nat.le_of_ble_eq_true rfl) hR.2⟩ rfl hl.1 rfl (Nat.le_of_ble_eq_true rfl) rfl dJ11_getChars_2_88 (fun H locs cells slots I => ?_)
      refine lv_iload_n hx hb dJ11_getChars_2_91 rfl (lv_at hl 1 rfl) ?_
      refine lv_bipush (v := (-9)) hx hb dJ11_getChars_2_92 (by decide) ?_
      refine lv_icmp_ge (tgt := 112) hx hb dJ11_getChars_2_94 (by decide) (fun c_94 => ?_) (fun c_94 => ?_)
      · have hf := ip c_94 hf
        exact wJ11_getChars_2_112 hX hR X N x2 x5_4 x6 _ _ _ _ _ I (lv_sub hl [2, 0, 3] rfl) hf
      · have hf := im c_94 hf
        refine lv_aload_n hx hb dJ11_getChars_2_97 rfl (lv_at hl 2 rfl) ?_
        obtain ⟨x5_8, ex5_8, hf⟩ := ol hf
        refine lv_iinc (v := x5_8) (lv' := [(5, .int x5_8), (0, .int x0), (2, .ref x2), (6, .int x6)]) hx hb dJ11_getChars_2_98 hl (k := 0) rfl ex5_8 (by decide) rfl (fun ls hl => ?_)
        refine lv_iload hx hb dJ11_getChars_2_101 (lv_at hl 0 rfl) ?_
        refine g_gets (ref := "java/lang/Integer") (w := .ref (E.2.2.2.1 4)) hX X I (List.mem_of_getElem? (i := 6) rfl) rfl q683 dJ11_getChars_2_103 ?_
        refine lv_iload_n hx hb dJ11_getChars_2_106 rfl (lv_at hl 1 rfl) ?_
        refine lv_ineg hx hb dJ11_getChars_2_107 ?_
        obtain ⟨v_9, ev_9, hf⟩ := ob hf
        refine g_bald X I ev_9 dJ11_getChars_2_108 ?_
        obtain ⟨v_10, ev_10, hf⟩ := ob hf
        refine cg_S (r := none) (σ' := σ) (rs := []) (rest := []) (As := [.ref x2, .int x5_8, .int v_9]) X I (mJ11_putChar hX ev_10) lvJ11_111 hdJ11_111 ⟨Nat.le_trans (Nat.le_of_ble_eq_true rfl) hR.1, Nat.le_trans (Nat.le_of_ble_eq_true rfl) hR.2⟩ rfl hl.1 rfl (Nat.le_of_ble_eq_true rfl) rfl dJ11_getChars_2_109 (fun H locs cells slots I => ?_)
        exact wJ11_getChars_2_112 hX hR X N x2 x5_8 x6 _ _ _ _ _ I (lv_sub hl [2, 0, 3] rfl) hf
    · have hf := im c_25 hf
      refine lv_iload_n hx hb dJ11_getChars_2_28 rfl (lv_at hl 0 rfl) ?_
      refine lv_bipush (v := 100) hx hb dJ11_getChars_2_29 (by decide) ?_
      refine lv_idiv hx hb dJ11_getChars_2_31 (by decide) ?_
      obtain ⟨x3_12, ex3_12, hf⟩ := ol hf
      refine nm_i ex3_12 ?_
      refine lv_istore_n (lv' := [(3, .int x3_12), (0, .int x0), (2, .ref x2), (5, .int x5), (6, .int x6)]) hx hb dJ11_getChars_2_32 rfl hl (by decide) rfl (fun ls hl => ?_)
      refine lv_iload_n hx hb dJ11_getChars_2_33 rfl (lv_at hl 0 rfl) ?_
      refine lv_bipush (v := 100) hx hb dJ11_getChars_2_34 (by decide) ?_
      refine lv_imul hx hb dJ11_getChars_2_36 ?_
      refine lv_iload_n hx hb dJ11_getChars_2_37 rfl (lv_at hl 1 rfl) ?_
      refine lv_isub hx hb dJ11_getChars_2_38 ?_
      obtain ⟨x4_13, ex4_13, hf⟩ := ol hf
      refine nm_i ex4_13 ?_
      refine lv_istore (lv' := [(4, .int x4_13), (3, .int x3_12), (0, .int x0), (2, .ref x2), (5, .int x5), (6, .int x6)]) hx hb dJ11_getChars_2_39 hl (by decide) rfl (fun ls hl => ?_)
      refine lv_iload_n hx hb dJ11_getChars_2_41 rfl (lv_at hl 1 rfl) ?_
      refine lv_istore_n (lv' := [(0, .int x3_12), (4, .int x4_13), (3, .int x3_12), (2, .ref x2), (5, .int x5), (6, .int x6)]) hx hb dJ11_getChars_2_42 rfl hl (by decide) rfl (fun ls hl => ?_)
      refine lv_aload_n hx hb dJ11_getChars_2_43 rfl (lv_at hl 3 rfl) ?_
      obtain ⟨x5_14, ex5_14, hf⟩ := ol hf
      refine lv_iinc (v := x5_14) (lv' := [(5, .int x5_14), (0, .int x3_12), (4, .int x4_13), (3, .int x3_12), (2, .ref x2), (6, .int x6)]) hx hb dJ11_getChars_2_44 hl (k := 4) rfl ex5_14 (by decide) rfl (fun ls hl => ?_)
      refine lv_iload hx hb dJ11_getChars_2_47 (lv_at hl 0 rfl) ?_
      refine g_gets (ref := "java/lang/Integer") (w := .ref (E.2.2.2.1 3)) hX X I (List.mem_of_getElem? (i := 5) rfl) rfl q682 dJ11_getChars_2_49 ?_
      refine lv_iload hx hb dJ11_getChars_2_52 (lv_at hl 2 rfl) ?_
      obtain ⟨v_15, ev_15, hf⟩ := ob hf
      refine g_bald X I ev_15 dJ11_getChars_2_54 ?_
      obtain ⟨v_16, ev_16, hf⟩ := ob hf
      refine cg_S (r := none) (σ' := σ) (rs := []) (rest := []) (As := [.ref x2, .int x5_14, .int v_15]) X I (mJ11_putChar hX ev_16) lvJ11_111 hdJ11_111 ⟨Nat.le_trans (Nat.le_of_ble_eq_true rfl) hR.1, Nat.le_trans (Nat.le_of_ble_eq_true rfl) hR.2⟩ rfl hl.1 rfl (Nat.le_of_ble_eq_true rfl) rfl dJ11_getChars_2_55 (fun H locs cells slots I => ?_)
      refine lv_aload_n hx hb dJ11_getChars_2_58 rfl (lv_at hl 4 rfl) ?_
      obtain ⟨x5_18, ex5_18, hf⟩ := ol hf
      refine lv_iinc (v := x5_18) (lv' := [(5, .int x5_18), (0, .int x3_12), (4, .int x4_13), (3, .int x3_12), (2, .ref x2), (6, .int x6)]) hx hb dJ11_getChars_2_59 hl (k := 0) rfl ex5_18 (by decide) rfl (fun ls hl => ?_)
      refine lv_iload hx hb dJ11_getChars_2_62 (lv_at hl 0 rfl) ?_
      refine g_gets (ref := "java/lang/Integer") (w := .ref (E.2.2.2.1 4)) hX X I (List.mem_of_getElem? (i := 6) rfl) rfl q683 dJ11_getChars_2_64 ?_
      refine lv_iload hx hb dJ11_getChars_2_67 (lv_at hl 2 rfl) ?_
      obtain ⟨v_19, ev_19, hf⟩ := ob hf
      refine g_bald X I ev_19 dJ11_getChars_2_69 ?_
      obtain ⟨v_20, ev_20, hf⟩ := ob hf
      refine cg_S (r := none) (σ' := σ) (rs := []) (rest := []) (As := [.ref x2, .int x5_18, .int v_19]) X I (mJ11_putChar hX ev_20) lvJ11_111 hdJ11_111 ⟨Nat.le_trans (Nat.le_of_ble_eq_true rfl) hR.1, Nat.le_trans (Nat.le_of_ble_eq_true rfl) hR.2⟩ rfl hl.1 rfl (Nat.le_of_ble_eq_true rfl) rfl dJ11_getChars_2_70 (fun H locs cells slots I => ?_)
      refine lv_goto (tgt := 22) hx hb dJ11_getChars_2_73 (by decide) ?_
      exact ih x3_12 x2 x5_18 x6 _ _ _ _ _ I (lv_sub hl [1, 4, 0, 5] rfl) hf
theorem wJ11_getChars_2_12 {E : EV} {l : Launch} {p : Program} {e : Env} {s : State} {m : MethodId} {args : Array Value} {below : List Frame} {meth : Method} {c : Code} {R : Room} {σ : St} {res : Int32} (hX : XK E) (hR : 2 ≤ R.frames ∧ 42 ≤ R.locals) (X : MX E p s m args meth c cJ11_getChars_2 7 (some .int) RJ11 "getChars") (N : Nat) : ∀ (x0 : Int32) (x2 : Nat) (x5 : Int32) (y0 : Int32) (H : Heap) (locs : List Loc) (cells slots : Nat) (ls : Array Slot), WI E R s σ H locs cells slots → lv_has ls 7 [(0, .int x0), (2, .ref x2), (5, .int x5)] → fJ11_getChars_2_12 N E.2.2.2.1 σ x0 x2 x5 y0 = some res → W p l e R s m args below meth c H locs cells slots (MQ below (Qd E R.cells R.slots (some (.int res)) σ) args s R.cells R.slots (fr E)) (F0 m 12 ls [.int y0]) := by
  intro x0 x2 x5 y0 H locs cells slots ls I hl hf
  obtain ⟨⟨hx, hb, hml, hown, hts⟩, -⟩ := id X
  unfold fJ11_getChars_2_12 at hf
  refine lv_istore (lv' := [(6, .int y0), (0, .int x0), (2, .ref x2), (5, .int x5)]) hx hb dJ11_getChars_2_12 hl (by decide) rfl (fun ls hl => ?_)
  refine lv_iload hx hb dJ11_getChars_2_14 (lv_at hl 0 rfl) ?_
  refine lv_if_ne (tgt := 22) hx hb dJ11_getChars_2_16 (by decide) (fun c_16 => ?_) (fun c_16 => ?_)
  · have hf := im c_16 hf
    exact wJ11_getChars_2_22 hX hR X N N x0 x2 x5 y0 _ _ _ _ _ I (lv_sub hl [1, 2, 3, 0] rfl) hf
  · have hf := ip c_16 hf
    refine lv_iload_n hx hb dJ11_getChars_2_19 rfl (lv_at hl 1 rfl) ?_
    refine lv_ineg hx hb dJ11_getChars_2_20 ?_
    obtain ⟨x0_22, ex0_22, hf⟩ := ol hf
    refine nm_i ex0_22 ?_
    refine lv_istore_n (lv' := [(0, .int x0_22), (6, .int y0), (2, .ref x2), (5, .int x5)]) hx hb dJ11_getChars_2_21 rfl hl (by decide) rfl (fun ls hl => ?_)
    exact wJ11_getChars_2_22 hX hR X N N x0_22 x2 x5 y0 _ _ _ _ _ I (lv_sub hl [0, 2, 3, 1] rfl) hf
theorem wJ11_getChars_2_0 {E : EV} {l : Launch} {p : Program} {e : Env} {s : State} {m : MethodId} {args : Array Value} {below : List Frame} {meth : Method} {c : Code} {R : Room} {σ : St} {res : Int32} (hX : XK E) (hR : 2 ≤ R.frames ∧ 42 ≤ R.locals) (X : MX E p s m args meth c cJ11_getChars_2 7 (some .int) RJ11 "getChars") (N : Nat) : ∀ (x0 : Int32) (x1 : Int32) (x2 : Nat) (H : Heap) (locs : List Loc) (cells slots : Nat) (ls : Array Slot), WI E R s σ H locs cells slots → lv_has ls 7 [(0, .int x0), (1, .int x1), (2, .ref x2)] → fJ11_getChars_2 N E.2.2.2.1 σ x0 x1 x2 = some res → W p l e R s m args below meth c H locs cells slots (MQ below (Qd E R.cells R.slots (some (.int res)) σ) args s R.cells R.slots (fr E)) (F0 m 0 ls []) := by
  intro x0 x1 x2 H locs cells slots ls I hl hf
  obtain ⟨⟨hx, hb, hml, hown, hts⟩, -⟩ := id X
  unfold fJ11_getChars_2 at hf
  refine lv_iload_n hx hb dJ11_getChars_2_0 rfl (lv_at hl 1 rfl) ?_
  refine lv_istore (lv' := [(5, .int x1), (0, .int x0), (1, .int x1), (2, .ref x2)]) hx hb dJ11_getChars_2_1 hl (by decide) rfl (fun ls hl => ?_)
  refine lv_iload_n hx hb dJ11_getChars_2_3 rfl (lv_at hl 1 rfl) ?_
  refine lv_if_ge (tgt := 11) hx hb dJ11_getChars_2_4 (by decide) (fun c_4 => ?_) (fun c_4 => ?_)
  · have hf := ip c_4 hf
    refine lv_iconst (v := 0) hx hb dJ11_getChars_2_11 (by decide) ?_
    exact wJ11_getChars_2_12 hX hR X N x0 x2 x1 (0 : Int32) _ _ _ _ _ I (lv_sub hl [1, 3, 0] rfl) hf
  · have hf := im c_4 hf
    refine lv_iconst (v := 1) hx hb dJ11_getChars_2_7 (by decide) ?_
    refine lv_goto (tgt := 12) hx hb dJ11_getChars_2_8 (by decide) ?_
    exact wJ11_getChars_2_12 hX hR X N x0 x2 x1 (1 : Int32) _ _ _ _ _ I (lv_sub hl [1, 3, 0] rfl) hf
theorem mJ11_getChars_2 {E : EV} {l : Launch} {N : Nat} {σ : St} {x0 : Int32} {x1 : Int32} {x2 : Nat} {res : Int32} (hX : XK E) (hf : fJ11_getChars_2 N E.2.2.2.1 σ x0 x1 x2 = some res) : CM E l yJ11_getChars_2 (ws_ yJ11_getChars_2 cJ11_getChars_2 7 (some .int)) 2 42 [.int x0, .int x1, .ref x2] σ (some (.int res)) σ := by
  refine CM.of hX.1 (by decide) rfl rfl (Nat.le_of_ble_eq_true rfl) ?_
  intro p e s m below meth c X I ls hl
  exact wJ11_getChars_2_0 hX ⟨Nat.le_refl _, Nat.le_refl _⟩ X N _ _ _ _ _ _ _ _ I hl hf
/-! java/lang/StringUTF16.getChars(III[B)I imp=False fuel=True kap=True rt=I thr=False -/
theorem lvJ11_393 : GoodIn lw_all (va_wsS RJ11 393 yJ11_getChars_2 (ws_ yJ11_getChars_2 cJ11_getChars_2 7 (some .int))) := lw_S q679 q680 q130 q681
theorem hdJ11_393 : yJ11_getChars_2.cls ≠ "java/lang/invoke/MethodHandle" ∧ yJ11_getChars_2.cls ≠ "java/lang/invoke/VarHandle" ∧ (parseMethodDescriptor yJ11_getChars_2.desc).map (fun d => d.parameters.length) = some 3 := by decide +kernel
def fJ11_getChars (N : Nat) (κ : Nat → Nat) (σ : St) (x0 : Int32) (x1 : Int32) (x2 : Int32) (x3 : Nat) : Option Int32 := (fJ11_checkBoundsBeginEnd κ σ x1 x2 x3).bind fun v_1 : Unit => (fJ11_getChars_2 N κ σ x0 x2 x3).bind fun v_3 : Int32 => none
theorem wJ11_getChars_0 {E : EV} {l : Launch} {p : Program} {e : Env} {s : State} {m : MethodId} {args : Array Value} {below : List Frame} {meth : Method} {c : Code} {R : Room} {σ : St} {res : Int32} (hX : XK E) (hR : 3 ≤ R.frames ∧ 68 ≤ R.locals) (X : MX E p s m args meth c cJ11_getChars 5 (some .int) RJ11 "getChars") (N : Nat) : ∀ (x0 : Int32) (x1 : Int32) (x2 : Int32) (x3 : Nat) (H : Heap) (locs : List Loc) (cells slots : Nat) (ls : Array Slot), WI E R s σ H locs cells slots → lv_has ls 5 [(0, .int x0), (1, .int x1), (2, .int x2), (3, .ref x3)] → fJ11_getChars N E.2.2.2.1 σ x0 x1 x2 x3 = some res → W p l e R s m args below meth c H locs cells slots (MQ below (Qd E R.cells R.slots (some (.int res)) σ) args s R.cells R.slots (fr E)) (F0 m 0 ls []) := by
  intro x0 x1 x2 x3 H locs cells slots ls I hl hf
  obtain ⟨⟨hx, hb, hml, hown, hts⟩, -⟩ := id X
  unfold fJ11_getChars at hf
  refine lv_iload_n hx hb dJ11_getChars_0 rfl (lv_at hl 1 rfl) ?_
  refine lv_iload_n hx hb dJ11_getChars_1 rfl (lv_at hl 2 rfl) ?_
  refine lv_aload_n hx hb dJ11_getChars_2 rfl (lv_at hl 3 rfl) ?_
  obtain ⟨v_1, ev_1, hf⟩ := ob hf
  refine cg_S (r := none) (σ' := σ) (rs := []) (rest := []) (As := [.int x1, .int x2, .ref x3]) X I (mJ11_checkBoundsBeginEnd hX ev_1) lvJ11_96 hdJ11_96 ⟨Nat.le_trans (Nat.le_of_ble_eq_true rfl) hR.1, Nat.le_trans (Nat.le_of_ble_eq_true rfl) hR.2⟩ rfl hl.1 rfl (Nat.le_of_ble_eq_true rfl) rfl dJ11_getChars_3 (fun H locs cells slots I => ?_)
  refine lv_iload_n hx hb dJ11_getChars_6 rfl (lv_at hl 0 rfl) ?_
  refine lv_iload_n hx hb dJ11_getChars_7 rfl (lv_at hl 2 rfl) ?_
  refine lv_aload_n hx hb dJ11_getChars_8 rfl (lv_at hl 3 rfl) ?_
  obtain ⟨v_3, ev_3, hf⟩ := ob hf
  refine cg_S (r := (some (.int v_3))) (σ' := σ) (rs := [.int v_3]) (rest := []) (As := [.int x0, .int x2, .ref x3]) X I (mJ11_getChars_2 hX ev_3) lvJ11_393 hdJ11_393 ⟨Nat.le_trans (Nat.le_of_ble_eq_true rfl) hR.1, Nat.le_trans (Nat.le_of_ble_eq_true rfl) hR.2⟩ rfl hl.1 rfl (Nat.le_of_ble_eq_true rfl) rfl dJ11_getChars_9 (fun H locs cells slots I => ?_)
  refine lv_istore (lv' := [(4, .int v_3), (0, .int x0), (1, .int x1), (2, .int x2), (3, .ref x3)]) hx hb dJ11_getChars_12 hl (by decide) rfl (fun ls hl => ?_)
  exact nomatch hf
theorem mJ11_getChars {E : EV} {l : Launch} {N : Nat} {σ : St} {x0 : Int32} {x1 : Int32} {x2 : Int32} {x3 : Nat} {res : Int32} (hX : XK E) (hf : fJ11_getChars N E.2.2.2.1 σ x0 x1 x2 x3 = some res) : CM E l yJ11_getChars (ws_ yJ11_getChars cJ11_getChars 5 (some .int)) 3 68 [.int x0, .int x1, .int x2, .ref x3] σ (some (.int res)) σ := by
  refine CM.of hX.1 (by decide) rfl rfl (Nat.le_of_ble_eq_true rfl) ?_
  intro p e s m below meth c X I ls hl
  exact wJ11_getChars_0 hX ⟨Nat.le_refl _, Nat.le_refl _⟩ X N _ _ _ _ _ _ _ _ _ I hl hf
/-! java/lang/AbstractStringBuilder.append(I)Ljava/lang/AbstractStringBuilder; imp=True fuel=True kap=True rt=N thr=False -/
theorem lvJ8_245 : GoodIn lw_all (va_wsS RJ8 245 yJ18_stringSize (ws_ yJ18_stringSize cJ18_stringSize 4 (some .int))) := lw_S q666 q667 q138 q668
theorem hdJ8_245 : yJ18_stringSize.cls ≠ "java/lang/invoke/MethodHandle" ∧ yJ18_stringSize.cls ≠ "java/lang/invoke/VarHandle" ∧ (parseMethodDescriptor yJ18_stringSize.desc).map (fun d => d.parameters.length) = some 1 := by decide +kernel
theorem lvJ8_251 : GoodIn lw_all (va_wsS RJ8 251 yJ11_getChars (ws_ yJ11_getChars cJ11_getChars 5 (some .int))) := lw_S q676 q677 q130 q678
theorem hdJ8_251 : yJ11_getChars.cls ≠ "java/lang/invoke/MethodHandle" ∧ yJ11_getChars.cls ≠ "java/lang/invoke/VarHandle" ∧ (parseMethodDescriptor yJ11_getChars.desc).map (fun d => d.parameters.length) = some 4 := by decide +kernel
theorem lvJ8_248 : GoodIn lw_all (va_wsS RJ8 248 yJ18_getChars (ws_ yJ18_getChars cJ18_getChars 7 (some .int))) := lw_S q669 q670 q138 q671
theorem hdJ8_248 : yJ18_getChars.cls ≠ "java/lang/invoke/MethodHandle" ∧ yJ18_getChars.cls ≠ "java/lang/invoke/VarHandle" ∧ (parseMethodDescriptor yJ18_getChars.desc).map (fun d => d.parameters.length) = some 3 := by decide +kernel
def fJ8_append_2 (N : Nat) (κ : Nat → Nat) (σ : St) (x0 : Nat) (x1 : Int32) : Option (Nat × St) := (gI σ x0 [(25, 3)]).bind fun v_1 : Int32 => (fJ18_stringSize N σ x1).bind fun v_2 : Int32 => lt (v_1 + v_2) fun x3_4 : Int32 => (isC σ x0 25).bind fun u_5 : Unit => (fJ8_ensureCapacityInternal σ x0 x3_4).bind fun σ_7 : St => (isC σ_7 x0 25).bind fun u_8 : Unit => (fJ8_isLatin1 κ σ_7 x0).bind fun v_9 : Int32 => if v_9 = 0 then (gR σ_7 x0 [(25, 0)]).bind fun v_11 : Option Nat => (v_11).bind fun a_12 : Nat => (fJ11_getChars N κ σ_7 x1 v_1 x3_4 a_12).bind fun v_13 : Int32 => (pV σ_7 x0 [(25, 3)] (.int x3_4)).bind fun σ_15 : St => some ((x0), σ_15) else (gR σ_7 x0 [(25, 0)]).bind fun v_16 : Option Nat => (v_16).bind fun a_17 : Nat => (fJ18_getChars N κ σ_7 x1 x3_4 a_17).bind fun (v_18, σ_19) => (pV σ_19 x0 [(25, 3)] (.int x3_4)).bind fun σ_20 : St => some ((x0), σ_20)
theorem wJ8_append_2_0 {E : EV} {l : Launch} {p : Program} {e : Env} {s : State} {m : MethodId} {args : Array Value} {below : List Frame} {meth : Method} {c : Code} {R : Room} {res : (Nat × St)} (hX : XK E) (hR : 4 ≤ R.frames ∧ 92 ≤ R.locals) (X : MX E p s m args meth c cJ8_append_2 4 (some (.object "java/lang/AbstractStringBuilder")) RJ8 "append") (N : Nat) : ∀ (x0 : Nat) (x1 : Int32) (σ : St) (H : Heap) (locs : List Loc) (cells slots : Nat) (ls : Array Slot), WI E R s σ H locs cells slots → lv_has ls 4 [(0, .ref x0), (1, .int x1)] → fJ8_append_2 N E.2.2.2.1 σ x0 x1 = some res → W p l e R s m args below meth c H locs cells slots (MQ below (Qd E R.cells R.slots (some (.ref res.1)) res.2) args s R.cells R.slots (fr E)) (F0 m 0 ls []) := by
  intro x0 x1 σ H locs cells slots ls I hl hf
  obtain ⟨⟨hx, hb, hml, hown, hts⟩, -⟩ := id X
  unfold fJ8_append_2 at hf
  refine lv_aload_n hx hb dJ8_append_2_0 rfl (lv_at hl 0 rfl) ?_
  obtain ⟨v_1, ev_1, hf⟩ := ob hf
  refine g_get X I gfJ8_79 (gI_in ev_1) dJ8_append_2_1 ?_
  refine lv_istore_n (lv' := [(2, .int v_1), (0, .ref x0), (1, .int x1)]) hx hb dJ8_append_2_4 rfl hl (by decide) rfl (fun ls hl => ?_)
  refine lv_iload_n hx hb dJ8_append_2_5 rfl (lv_at hl 0 rfl) ?_
  refine lv_iload_n hx hb dJ8_append_2_6 rfl (lv_at hl 2 rfl) ?_
  obtain ⟨v_2, ev_2, hf⟩ := ob hf
  refine cg_S (r := (some (.int v_2))) (σ' := σ) (rs := [.int v_2, .int v_1]) (rest := [.int v_1]) (As := [.int x1]) X I (mJ18_stringSize hX ev_2) lvJ8_245 hdJ8_245 ⟨Nat.le_trans (Nat.le_of_ble_eq_true rfl) hR.1, Nat.le_trans (Nat.le_of_ble_eq_true rfl) hR.2⟩ rfl hl.1 rfl (Nat.le_of_ble_eq_true rfl) rfl dJ8_append_2_7 (fun H locs cells slots I => ?_)
  refine lv_iadd hx hb dJ8_append_2_10 ?_
  obtain ⟨x3_4, ex3_4, hf⟩ := ol hf
  refine nm_i ex3_4 ?_
  refine lv_istore_n (lv' := [(3, .int x3_4), (2, .int v_1), (0, .ref x0), (1, .int x1)]) hx hb dJ8_append_2_11 rfl hl (by decide) rfl (fun ls hl => ?_)
  refine lv_aload_n hx hb dJ8_append_2_12 rfl (lv_at hl 2 rfl) ?_
  refine lv_iload_n hx hb dJ8_append_2_13 rfl (lv_at hl 0 rfl) ?_
  obtain ⟨u_5, eu_5, hf⟩ := ob hf
  obtain ⟨σ_7, ev_6, hf⟩ := ob hf
  refine cg_UP (r := none) (σ' := σ_7) (rs := []) (rest := []) (As := [.int x3_4]) hX X I eu_5 (mJ8_ensureCapacityInternal hX ev_6) lvJ8_100 hdJ8_100 ⟨Nat.le_trans (Nat.le_of_ble_eq_true rfl) hR.1, Nat.le_trans (Nat.le_of_ble_eq_true rfl) hR.2⟩ rfl hl.1 rfl (Nat.le_of_ble_eq_true rfl) rfl dJ8_append_2_14 (fun H locs cells slots I => ?_)
  refine lv_aload_n hx hb dJ8_append_2_17 rfl (lv_at hl 2 rfl) ?_
  obtain ⟨u_8, eu_8, hf⟩ := ob hf
  obtain ⟨v_9, ev_9, hf⟩ := ob hf
  refine cg_U (vw := (RJ9, TJ9, 4)) (ci := 25) (r := (some (.int v_9))) (σ' := σ_7) (rs := [.int v_9]) (rest := []) (As := []) X I eu_8 rfl (mJ8_isLatin1 hX ev_9) lvJ8_83 hdJ8_83 ⟨Nat.le_trans (Nat.le_of_ble_eq_true rfl) hR.1, Nat.le_trans (Nat.le_of_ble_eq_true rfl) hR.2⟩ rfl hl.1 rfl (Nat.le_of_ble_eq_true rfl) rfl dJ8_append_2_18 (fun H locs cells slots I => ?_)
  refine lv_if_eq (tgt := 37) hx hb dJ8_append_2_21 (by decide) (fun c_21 => ?_) (fun c_21 => ?_)
  · have hf := ip c_21 hf
    refine lv_iload_n hx hb dJ8_append_2_37 rfl (lv_at hl 3 rfl) ?_
    refine lv_iload_n hx hb dJ8_append_2_38 rfl (lv_at hl 1 rfl) ?_
    refine lv_iload_n hx hb dJ8_append_2_39 rfl (lv_at hl 0 rfl) ?_
    refine lv_aload_n hx hb dJ8_append_2_40 rfl (lv_at hl 2 rfl) ?_
    obtain ⟨v_11, ev_11, hf⟩ := ob hf
    refine g_get X I gfJ8_15 (gR_in ev_11) dJ8_append_2_41 ?_
    obtain ⟨a_12, ea_12, hga_12⟩ := ob hf
    have hla_12 := hl
    have Ia_12 := I
    subst ea_12
    have hf := hga_12
    have hl := hla_12
    have I := Ia_12
    obtain ⟨v_13, ev_13, hf⟩ := ob hf
    refine cg_S (r := (some (.int v_13))) (σ' := σ_7) (rs := [.int v_13]) (rest := []) (As := [.int x1, .int v_1, .int x3_4, .ref a_12]) X I (mJ11_getChars hX ev_13) lvJ8_251 hdJ8_251 ⟨Nat.le_trans (Nat.le_of_ble_eq_true rfl) hR.1, Nat.le_trans (Nat.le_of_ble_eq_true rfl) hR.2⟩ rfl hl.1 rfl (Nat.le_of_ble_eq_true rfl) rfl dJ8_append_2_44 (fun H locs cells slots I => ?_)
    refine lv_pop hx hb dJ8_append_2_47 rfl ?_
    refine lv_aload_n hx hb dJ8_append_2_48 rfl (lv_at hl 2 rfl) ?_
    refine lv_iload_n hx hb dJ8_append_2_49 rfl (lv_at hl 0 rfl) ?_
    obtain ⟨σ_15, eσ_15, hf⟩ := ob hf
    refine g_put X I pfJ8_79 rfl rfl eσ_15 dJ8_append_2_50 (fun H locs I => ?_)
    refine lv_aload_n hx hb dJ8_append_2_53 rfl (lv_at hl 2 rfl) ?_
    cases os hf
    exact r_aret X I (Or.inl ⟨_, rfl⟩) (Or.inr ⟨_, rfl⟩) dJ8_append_2_54
  · have hf := im c_21 hf
    refine lv_iload_n hx hb dJ8_append_2_24 rfl (lv_at hl 3 rfl) ?_
    refine lv_iload_n hx hb dJ8_append_2_25 rfl (lv_at hl 0 rfl) ?_
    refine lv_aload_n hx hb dJ8_append_2_26 rfl (lv_at hl 2 rfl) ?_
    obtain ⟨v_16, ev_16, hf⟩ := ob hf
    refine g_get X I gfJ8_15 (gR_in ev_16) dJ8_append_2_27 ?_
    obtain ⟨a_17, ea_17, hga_17⟩ := ob hf
    have hla_17 := hl
    have Ia_17 := I
    subst ea_17
    have hf := hga_17
    have hl := hla_17
    have I := Ia_17
    obtain ⟨⟨v_18, σ_19⟩, ev_18, hf⟩ := ob hf
    refine cg_S (r := (some (.int v_18))) (σ' := σ_19) (rs := [.int v_18]) (rest := []) (As := [.int x1, .int x3_4, .ref a_17]) X I (mJ18_getChars hX ev_18) lvJ8_248 hdJ8_248 ⟨Nat.le_trans (Nat.le_of_ble_eq_true rfl) hR.1, Nat.le_trans (Nat.le_of_ble_eq_true rfl) hR.2⟩ rfl hl.1 rfl (Nat.le_of_ble_eq_true rfl) rfl dJ8_append_2_30 (fun H locs cells slots I => ?_)
    refine lv_pop hx hb dJ8_append_2_33 rfl ?_
    refine lv_goto (tgt := 48) hx hb dJ8_append_2_34 (by decide) ?_
    refine lv_aload_n hx hb dJ8_append_2_48 rfl (lv_at hl 2 rfl) ?_
    refine lv_iload_n hx hb dJ8_append_2_49 rfl (lv_at hl 0 rfl) ?_
    obtain ⟨σ_20, eσ_20, hf⟩ := ob hf
    refine g_put X I pfJ8_79 rfl rfl eσ_20 dJ8_append_2_50 (fun H locs I => ?_)
    refine lv_aload_n hx hb dJ8_append_2_53 rfl (lv_at hl 2 rfl) ?_
    cases os hf
    exact r_aret X I (Or.inl ⟨_, rfl⟩) (Or.inr ⟨_, rfl⟩) dJ8_append_2_54
theorem mJ8_append_2 {E : EV} {l : Launch} {N : Nat} {σ : St} {x0 : Nat} {x1 : Int32} {res : (Nat × St)} (hX : XK E) (hf : fJ8_append_2 N E.2.2.2.1 σ x0 x1 = some res) : CM E l yJ8_append_2 (ws_ yJ8_append_2 cJ8_append_2 4 (some (.object "java/lang/AbstractStringBuilder"))) 4 92 [.ref x0, .int x1] σ (some (.ref res.1)) res.2 := by
  refine CM.of hX.1 (by decide) rfl rfl (Nat.le_of_ble_eq_true rfl) ?_
  intro p e s m below meth c X I ls hl
  exact wJ8_append_2_0 hX ⟨Nat.le_refl _, Nat.le_refl _⟩ X N _ _ _ _ _ _ _ _ I hl hf
/-! java/lang/StringBuilder.append(I)Ljava/lang/StringBuilder; imp=True fuel=True kap=True rt=N thr=False -/
theorem lvJ9_53 : GoodIn lw_all (va_wsSU RJ9 53 yJ8_append_2 (ws_ yJ8_append_2 cJ8_append_2 4 (some (.object "java/lang/AbstractStringBuilder")))) := lw_good (List.forall_mem_cons.mpr ⟨q663, List.forall_mem_cons.mpr ⟨q3344, List.forall_mem_cons.mpr ⟨q536, List.forall_mem_cons.mpr ⟨q664, List.forall_mem_cons.mpr ⟨q127, fun w h => (lw_meth q665 w h).1⟩⟩⟩⟩⟩)
theorem hdJ9_53 : yJ8_append_2.name ≠ "<init>" ∧ (parseMethodDescriptor yJ8_append_2.desc).map (fun d => d.parameters.length) = some 1 := by decide +kernel
def fJ9_append_2 (N : Nat) (κ : Nat → Nat) (σ : St) (x0 : Nat) (x1 : Int32) : Option (Nat × St) := (isC σ x0 25).bind fun u_1 : Unit => (fJ8_append_2 N κ σ x0 x1).bind fun (v_2, σ_3) => some ((x0), σ_3)
theorem wJ9_append_2_0 {E : EV} {l : Launch} {p : Program} {e : Env} {s : State} {m : MethodId} {args : Array Value} {below : List Frame} {meth : Method} {c : Code} {R : Room} {res : (Nat × St)} (hX : XK E) (hR : 5 ≤ R.frames ∧ 115 ≤ R.locals) (X : MX E p s m args meth c cJ9_append_2 2 (some (.object "java/lang/StringBuilder")) RJ9 "append") (N : Nat) : ∀ (x0 : Nat) (x1 : Int32) (σ : St) (H : Heap) (locs : List Loc) (cells slots : Nat) (ls : Array Slot), WI E R s σ H locs cells slots → lv_has ls 2 [(0, .ref x0), (1, .int x1)] → fJ9_append_2 N E.2.2.2.1 σ x0 x1 = some res → W p l e R s m args below meth c H locs cells slots (MQ below (Qd E R.cells R.slots (some (.ref res.1)) res.2) args s R.cells R.slots (fr E)) (F0 m 0 ls []) := by
  intro x0 x1 σ H locs cells slots ls I hl hf
  obtain ⟨⟨hx, hb, hml, hown, hts⟩, -⟩ := id X
  unfold fJ9_append_2 at hf
  refine lv_aload_n hx hb dJ9_append_2_0 rfl (lv_at hl 0 rfl) ?_
  refine lv_iload_n hx hb dJ9_append_2_1 rfl (lv_at hl 1 rfl) ?_
  obtain ⟨u_1, eu_1, hf⟩ := ob hf
  obtain ⟨⟨v_2, σ_3⟩, ev_2, hf⟩ := ob hf
  refine cg_SU (vw := (RJ9, TJ9, 4)) (ci := 25) (r := (some (.ref v_2))) (σ' := σ_3) (rs := [.ref v_2]) (rest := []) (As := [.int x1]) X I eu_1 rfl (mJ8_append_2 hX ev_2) lvJ9_53 hdJ9_53 ⟨Nat.le_trans (Nat.le_of_ble_eq_true rfl) hR.1, Nat.le_trans (Nat.le_of_ble_eq_true rfl) hR.2⟩ rfl hl.1 rfl (Nat.le_of_ble_eq_true rfl) rfl dJ9_append_2_2 (fun H locs cells slots I => ?_)
  refine lv_pop hx hb dJ9_append_2_5 rfl ?_
  refine lv_aload_n hx hb dJ9_append_2_6 rfl (lv_at hl 0 rfl) ?_
  cases os hf
  exact r_aret X I (Or.inl ⟨_, rfl⟩) (Or.inr ⟨_, rfl⟩) dJ9_append_2_7
theorem mJ9_append_2 {E : EV} {l : Launch} {N : Nat} {σ : St} {x0 : Nat} {x1 : Int32} {res : (Nat × St)} (hX : XK E) (hf : fJ9_append_2 N E.2.2.2.1 σ x0 x1 = some res) : CM E l yJ9_append_2 (ws_ yJ9_append_2 cJ9_append_2 2 (some (.object "java/lang/StringBuilder"))) 5 115 [.ref x0, .int x1] σ (some (.ref res.1)) res.2 := by
  refine CM.of hX.1 (by decide) rfl rfl (Nat.le_of_ble_eq_true rfl) ?_
  intro p e s m below meth c X I ls hl
  exact wJ9_append_2_0 hX ⟨Nat.le_refl _, Nat.le_refl _⟩ X N _ _ _ _ _ _ _ _ I hl hf
/-! SharedTaxis$Words$1.next()Ljava/lang/String; imp=True fuel=True kap=True rt=N thr=True -/
theorem lvX20_84 : GoodIn lw_all (wsV RX20 84 RJ9 yJ9_append_2 (ws_ yJ9_append_2 cJ9_append_2 2 (some (.object "java/lang/StringBuilder")))) := lw_V q659 q660 q661 q128 q662
theorem hdX20_84 : yJ9_append_2.cls = RJ9 ∧ yJ9_append_2.cls ≠ "java/lang/invoke/MethodHandle" ∧ yJ9_append_2.cls ≠ "java/lang/invoke/VarHandle" ∧ (parseMethodDescriptor yJ9_append_2.desc).map (fun d => d.parameters.length) = some 1 := by decide +kernel
theorem lvX20_95 : GoodIn lw_all (wsV RX20 95 RJ9 yJ9_toString (ws_ yJ9_toString cJ9_toString 1 (some (.object "java/lang/String")))) := lw_V q685 q686 q687 q128 q688
theorem hdX20_95 : yJ9_toString.cls = RJ9 ∧ yJ9_toString.cls ≠ "java/lang/invoke/MethodHandle" ∧ yJ9_toString.cls ≠ "java/lang/invoke/VarHandle" ∧ (parseMethodDescriptor yJ9_toString.desc).map (fun d => d.parameters.length) = some 0 := by decide +kernel
theorem lvX20_80 : GoodIn lw_all (wsV RX20 80 RJ9 yJ9_append (ws_ yJ9_append cJ9_append 2 (some (.object "java/lang/StringBuilder")))) := lw_V q539 q540 q541 q128 q542
theorem hdX20_80 : yJ9_append.cls = RJ9 ∧ yJ9_append.cls ≠ "java/lang/invoke/MethodHandle" ∧ yJ9_append.cls ≠ "java/lang/invoke/VarHandle" ∧ (parseMethodDescriptor yJ9_append.desc).map (fun d => d.parameters.length) = some 1 := by decide +kernel
theorem gfX20_64 : ∀ q ∈ ([(13, 0)] : List (Nat × Nat)), GN RX20 64 q := List.forall_mem_cons.mpr ⟨⟨RX15, TX15, 2, _, rfl, in_X15, by decide, q1818⟩, fun _ h => by cases h⟩
theorem gfX20_72 : ∀ q ∈ ([(13, 1)] : List (Nat × Nat)), GN RX20 72 q := List.forall_mem_cons.mpr ⟨⟨RX15, TX15, 2, _, rfl, in_X15, by decide, q1823⟩, fun _ h => by cases h⟩
theorem gfX20_92 : ∀ q ∈ ([(14, 2)] : List (Nat × Nat)), GN RX20 92 q := List.forall_mem_cons.mpr ⟨⟨RX16, TX16, 15, _, rfl, in_X16, by decide, q1112⟩, fun _ h => by cases h⟩
theorem gfX20_89 : ∀ q ∈ ([(14, 1)] : List (Nat × Nat)), GN RX20 89 q := List.forall_mem_cons.mpr ⟨⟨RX16, TX16, 15, _, rfl, in_X16, by decide, q1108⟩, fun _ h => by cases h⟩
theorem lvX20_35 : GoodIn lw_all (wsV RX20 35 RX20 yX20_hasNext (ws_ yX20_hasNext cX20_hasNext 1 (some .boolean))) := lw_V q411 q374 q3335 q160 q376
theorem hdX20_35 : yX20_hasNext.cls = RX20 ∧ yX20_hasNext.cls ≠ "java/lang/invoke/MethodHandle" ∧ yX20_hasNext.cls ≠ "java/lang/invoke/VarHandle" ∧ (parseMethodDescriptor yX20_hasNext.desc).map (fun d => d.parameters.length) = some 0 := by decide +kernel
theorem lvX20_39 : GoodIn lw_all (ws_ yX1_requireExists cX1_requireExists 1 none) ∧ Cond.methodLinkNest RX20 39 yX1_requireExists "SharedTaxis" ∈ lw_tbl ∧ Cond.initialized yX1_requireExists.cls ∈ lw_all ∧ Cond.static yX1_requireExists ∈ lw_all := ⟨lw_meth q414, q412, q113, q413⟩
theorem hdX20_39 : yX1_requireExists.cls ≠ "java/lang/invoke/MethodHandle" ∧ yX1_requireExists.cls ≠ "java/lang/invoke/VarHandle" ∧ (parseMethodDescriptor yX1_requireExists.desc).map (fun d => d.parameters.length) = some 1 := by decide +kernel
theorem lvX20_45_J2 : GoodIn lw_all (va_wsF RX20 45 RJ2 ⟨"java/util/List", "get", "(I)Ljava/lang/Object;"⟩ yJ2_get (ws_ yJ2_get cJ2_get 2 (some (.object "java/lang/Object")))) ∧ (RJ2, ⟨"java/util/List", "get", "(I)Ljava/lang/Object;"⟩, yJ2_get) ∈ FWL := ⟨lw_good (List.forall_mem_cons.mpr ⟨q486, List.forall_mem_cons.mpr ⟨q489, List.forall_mem_cons.mpr ⟨q491, List.forall_mem_cons.mpr ⟨q118, fun w h => (lw_meth q493 w h).1⟩⟩⟩⟩), List.mem_of_getElem? (i := 10) rfl⟩
theorem hdX20_45_J2 : (⟨"java/util/List", "get", "(I)Ljava/lang/Object;"⟩ : MethodName).cls ≠ "java/lang/invoke/MethodHandle" ∧ (⟨"java/util/List", "get", "(I)Ljava/lang/Object;"⟩ : MethodName).cls ≠ "java/lang/invoke/VarHandle" ∧ (parseMethodDescriptor (⟨"java/util/List", "get", "(I)Ljava/lang/Object;"⟩ : MethodName).desc).map (fun d => d.parameters.length) = some 1 := by decide +kernel
theorem gfX20_51 : ∀ q ∈ ([(17, 1)] : List (Nat × Nat)), GF RX20 51 q := List.forall_mem_cons.mpr ⟨⟨RX19, TX19, 2, _, rfl, in_X19, by decide, q2402, Or.inl rfl⟩, fun _ h => by cases h⟩
theorem gfX20_55 : ∀ q ∈ ([(0, 3)] : List (Nat × Nat)), GN RX20 55 q := List.forall_mem_cons.mpr ⟨⟨RX1, TX1, 7, _, rfl, in_X1, by decide, q302⟩, fun _ h => by cases h⟩
theorem gfX20_59 : ∀ q ∈ ([(1, 6)] : List (Nat × Nat)), GN RX20 59 q := List.forall_mem_cons.mpr ⟨⟨RX2, TX2, 7, _, rfl, in_X2, by decide, q260⟩, fun _ h => by cases h⟩
theorem pfX20_13 : ∀ q ∈ ([(18, 0)] : List (Nat × Nat)), PF RX20 13 .int q := List.forall_mem_cons.mpr ⟨⟨RX20, TX20, 2, _, tyX20, rfl, in_X20, by decide, q2424, Or.inl rfl, tyX20_ok, nmX20, rfl, rfl⟩, fun _ h => by cases h⟩
theorem noX20_69 : NO RX20 69 25 4 [.null, .int 0, .int 0, .int 0] := ⟨RJ9, TJ9, tyJ9, rfl, in_J9, tyJ9_ok, by decide, q506, q507, q128⟩
theorem lvX20_71 : GoodIn lw_all (ws_ yJ9_init cJ9_init 1 none) ∧ Cond.initialized yJ9_init.cls ∈ lw_all ∧ Cond.methodLink RX20 71 yJ9_init ∈ lw_all ∧ Cond.instanceMethod yJ9_init ∈ lw_all ∧ yJ9_init.name = "<init>" := ⟨lw_meth q510, q128, q508, q509, rfl⟩
theorem hdX20_71 : yJ9_init.cls ≠ "java/lang/invoke/MethodHandle" ∧ yJ9_init.cls ≠ "java/lang/invoke/VarHandle" ∧ (parseMethodDescriptor yJ9_init.desc).map (fun d => d.parameters.length) = some 0 := by decide +kernel
def fX20_next_2_120 (N : Nat) (κ : Nat → Nat) (y0 : Nat) (y1 : Int32) (σ : St) : Option ((Nat ⊕ Nat) × St) := (isC σ y0 25).bind fun u_1 : Unit => (fJ9_append_2 N κ σ y0 y1).bind fun (v_2, σ_3) => (isC σ_3 v_2 25).bind fun u_4 : Unit => (fJ9_toString N κ σ_3 v_2).bind fun (v_5, σ_6) => some (.inl (v_5), σ_6)
def fX20_next_2_87 (N : Nat) (κ : Nat → Nat) (x1 : Nat) (x2 : Nat) (y0 : Nat) (y1 : Nat) (σ : St) : Option ((Nat ⊕ Nat) × St) := (isC σ y0 25).bind fun u_7 : Unit => (fJ9_append N κ σ y0 y1).bind fun (v_8, σ_9) => (gI σ_9 x1 [(13, 0)]).bind fun v_10 : Int32 => (isC σ_9 v_8 25).bind fun u_11 : Unit => (fJ9_append_2 N κ σ_9 v_8 v_10).bind fun (v_12, σ_13) => (isC σ_13 v_12 25).bind fun u_14 : Unit => (fJ9_append N κ σ_13 v_12 (κ 135)).bind fun (v_15, σ_16) => (gI σ_16 x1 [(13, 1)]).bind fun v_17 : Int32 => if v_17 = 0 then (gI σ_16 x2 [(14, 2)]).bind fun v_18 : Int32 => fX20_next_2_120 N κ v_15 v_18 σ_16 else (gI σ_16 x2 [(14, 1)]).bind fun v_19 : Int32 => fX20_next_2_120 N κ v_15 v_19 σ_16
def fX20_next_2 (N : Nat) (κ : Nat → Nat) (σ : St) (x0 : Nat) : Option ((Nat ⊕ Nat) × St) := (isC σ x0 18).bind fun u_20 : Unit => (fX20_hasNext σ x0).bind fun v_21 : Int32 => (fX1_requireExists σ v_21).bind fun (v_23, σ_24) => se v_23 (fun v_25 => (gR σ_24 x0 [(18, 1)]).bind fun v_27 : Option Nat => (v_27).bind fun a_28 : Nat => (gR σ_24 a_28 [(17, 0)]).bind fun v_29 : Option Nat => (v_29).bind fun a_30 : Nat => (gR σ_24 a_30 [(10, 7)]).bind fun v_31 : Option Nat => (gI σ_24 x0 [(18, 0)]).bind fun v_32 : Int32 => (v_31).bind fun a_33 : Nat => (isC σ_24 a_33 21).bind fun u_34 : Unit => (fJ2_get σ_24 a_33 v_32).bind fun v_35 : Option Nat => (v_35).bind fun a_37 : Nat => (isC σ_24 a_37 13).bind fun u_38 : Unit => (gR σ_24 x0 [(18, 1)]).bind fun v_39 : Option Nat => (v_39).bind fun a_40 : Nat => (gR σ_24 a_40 [(17, 1)]).bind fun v_41 : Option Nat => (v_41).bind fun a_42 : Nat => (gR σ_24 a_42 [(0, 3)]).bind fun v_43 : Option Nat => (v_43).bind fun a_44 : Nat => (gR σ_24 a_44 [(1, 6)]).bind fun v_45 : Option Nat => (gI σ_24 a_37 [(13, 0)]).bind fun v_46 : Int32 => (v_45).bind fun a_47 : Nat => (isC σ_24 a_47 21).bind fun u_48 : Unit => (fJ2_get σ_24 a_47 v_46).bind fun v_49 : Option Nat => (v_49).bind fun a_51 : Nat => (isC σ_24 a_51 14).bind fun u_52 : Unit => (gI σ_24 x0 [(18, 0)]).bind fun v_53 : Int32 => (pV σ_24 x0 [(18, 0)] (.int (v_53 + (1 : Int32)))).bind fun σ_54 : St => (nH σ_54 4 (.inr (25, [.null, .int 0, .int 0, .int 0]))).bind fun (q_55a, q_55s) => (fJ9_init κ q_55s q_55a).bind fun σ_57 : St => (gI σ_57 a_37 [(13, 1)]).bind fun v_58 : Int32 => if v_58 = 0 then fX20_next_2_87 N κ a_37 a_51 q_55a (κ 134) σ_57 else fX20_next_2_87 N κ a_37 a_51 q_55a (κ 133) σ_57) (fun q_26 => (isX σ_24 q_26).bind fun uq_26 : Unit => some (.inr q_26, σ_24))
theorem wX20_next_2_120 {E : EV} {l : Launch} {p : Program} {e : Env} {s : State} {m : MethodId} {args : Array Value} {below : List Frame} {meth : Method} {c : Code} {R : Room} {res : ((Nat ⊕ Nat) × St)} (hX : XK E) (hR : 10 ≤ R.frames ∧ 223 ≤ R.locals) (X : MX E p s m args meth c cX20_next_2 3 (some (.object "java/lang/String")) RX20 "next") (XH : MH c []) (hS : l.stackTraces = false) (N : Nat) : ∀ (y0 : Nat) (y1 : Int32) (σ : St) (H : Heap) (locs : List Loc) (cells slots : Nat) (ls : Array Slot), WI E R s σ H locs cells slots → lv_has ls 3 [] → fX20_next_2_120 N E.2.2.2.1 y0 y1 σ = some res → W p l e R s m args below meth c H locs cells slots (vx_MQ below (QS E R.cells R.slots (sv (fun v => (some (.ref v))) res.1) res.2) (XS E R.cells R.slots (sx res.1) res.2) args s R.cells R.slots (fr E)) (F0 m 120 ls [.int y1, .ref y0]) := by
  intro y0 y1 σ H locs cells slots ls I hl hf
  obtain ⟨⟨hx, hb, hml, hown, hts⟩, -⟩ := id X
  unfold fX20_next_2_120 at hf
  obtain ⟨u_1, eu_1, hf⟩ := ob hf
  obtain ⟨⟨v_2, σ_3⟩, ev_2, hf⟩ := ob hf
  refine cg_V (vw := (RJ9, TJ9, 4)) (ci := 25) (r := (some (.ref v_2))) (σ' := σ_3) (rs := [.ref v_2]) (rest := []) (As := [.int y1]) X I eu_1 rfl (mJ9_append_2 hX ev_2) lvX20_84 hdX20_84 ⟨Nat.le_trans (Nat.le_of_ble_eq_true rfl) hR.1, Nat.le_trans (Nat.le_of_ble_eq_true rfl) hR.2⟩ rfl hl.1 rfl (Nat.le_of_ble_eq_true rfl) rfl dX20_next_2_120 (fun H locs cells slots I => ?_)
  obtain ⟨u_4, eu_4, hf⟩ := ob hf
  obtain ⟨⟨v_5, σ_6⟩, ev_5, hf⟩ := ob hf
  refine cg_V (vw := (RJ9, TJ9, 4)) (ci := 25) (r := (some (.ref v_5))) (σ' := σ_6) (rs := [.ref v_5]) (rest := []) (As := []) X I eu_4 rfl (mJ9_toString hX ev_5) lvX20_95 hdX20_95 ⟨Nat.le_trans (Nat.le_of_ble_eq_true rfl) hR.1, Nat.le_trans (Nat.le_of_ble_eq_true rfl) hR.2⟩ rfl hl.1 rfl (Nat.le_of_ble_eq_true rfl) rfl dX20_next_2_123 (fun H locs cells slots I => ?_)
  cases os hf
  exact x_ret (r_aret X I (Or.inl ⟨_, rfl⟩) (Or.inr ⟨_, rfl⟩) dX20_next_2_126)
theorem wX20_next_2_87 {E : EV} {l : Launch} {p : Program} {e : Env} {s : State} {m : MethodId} {args : Array Value} {below : List Frame} {meth : Method} {c : Code} {R : Room} {res : ((Nat ⊕ Nat) × St)} (hX : XK E) (hR : 10 ≤ R.frames ∧ 223 ≤ R.locals) (X : MX E p s m args meth c cX20_next_2 3 (some (.object "java/lang/String")) RX20 "next") (XH : MH c []) (hS : l.stackTraces = false) (N : Nat) : ∀ (x1 : Nat) (x2 : Nat) (y0 : Nat) (y1 : Nat) (σ : St) (H : Heap) (locs : List Loc) (cells slots : Nat) (ls : Array Slot), WI E R s σ H locs cells slots → lv_has ls 3 [(1, .ref x1), (2, .ref x2)] → fX20_next_2_87 N E.2.2.2.1 x1 x2 y0 y1 σ = some res → W p l e R s m args below meth c H locs cells slots (vx_MQ below (QS E R.cells R.slots (sv (fun v => (some (.ref v))) res.1) res.2) (XS E R.cells R.slots (sx res.1) res.2) args s R.cells R.slots (fr E)) (F0 m 87 ls [.ref y1, .ref y0]) := by
  intro x1 x2 y0 y1 σ H locs cells slots ls I hl hf
  obtain ⟨⟨hx, hb, hml, hown, hts⟩, -⟩ := id X
  unfold fX20_next_2_87 at hf
  obtain ⟨u_7, eu_7, hf⟩ := ob hf
  obtain ⟨⟨v_8, σ_9⟩, ev_8, hf⟩ := ob hf
  refine cg_V (vw := (RJ9, TJ9, 4)) (ci := 25) (r := (some (.ref v_8))) (σ' := σ_9) (rs := [.ref v_8]) (rest := []) (As := [.ref y1]) X I eu_7 rfl (mJ9_append hX ev_8) lvX20_80 hdX20_80 ⟨Nat.le_trans (Nat.le_of_ble_eq_true rfl) hR.1, Nat.le_trans (Nat.le_of_ble_eq_true rfl) hR.2⟩ rfl hl.1 rfl (Nat.le_of_ble_eq_true rfl) rfl dX20_next_2_87 (fun H locs cells slots I => ?_)
  refine lv_aload_n hx hb dX20_next_2_90 rfl (lv_at hl 0 rfl) ?_
  obtain ⟨v_10, ev_10, hf⟩ := ob hf
  refine g_getN hX X I gfX20_64 (gI_in ev_10) dX20_next_2_91 ?_
  obtain ⟨u_11, eu_11, hf⟩ := ob hf
  obtain ⟨⟨v_12, σ_13⟩, ev_12, hf⟩ := ob hf
  refine cg_V (vw := (RJ9, TJ9, 4)) (ci := 25) (r := (some (.ref v_12))) (σ' := σ_13) (rs := [.ref v_12]) (rest := []) (As := [.int v_10]) X I eu_11 rfl (mJ9_append_2 hX ev_12) lvX20_84 hdX20_84 ⟨Nat.le_trans (Nat.le_of_ble_eq_true rfl) hR.1, Nat.le_trans (Nat.le_of_ble_eq_true rfl) hR.2⟩ rfl hl.1 rfl (Nat.le_of_ble_eq_true rfl) rfl dX20_next_2_94 (fun H locs cells slots I => ?_)
  refine g_ldcS hX X (tx := "@") (k := 135) (List.mem_of_getElem? (i := 35) rfl) dX20_next_2_97 ?_
  obtain ⟨u_14, eu_14, hf⟩ := ob hf
  obtain ⟨⟨v_15, σ_16⟩, ev_15, hf⟩ := ob hf
  refine cg_V (vw := (RJ9, TJ9, 4)) (ci := 25) (r := (some (.ref v_15))) (σ' := σ_16) (rs := [.ref v_15]) (rest := []) (As := [.ref (E.2.2.2.1 135)]) X I eu_14 rfl (mJ9_append hX ev_15) lvX20_80 hdX20_80 ⟨Nat.le_trans (Nat.le_of_ble_eq_true rfl) hR.1, Nat.le_trans (Nat.le_of_ble_eq_true rfl) hR.2⟩ rfl hl.1 rfl (Nat.le_of_ble_eq_true rfl) rfl dX20_next_2_99 (fun H locs cells slots I => ?_)
  refine lv_aload_n hx hb dX20_next_2_102 rfl (lv_at hl 0 rfl) ?_
  obtain ⟨v_17, ev_17, hf⟩ := ob hf
  refine g_getN hX X I gfX20_72 (gI_in ev_17) dX20_next_2_103 ?_
  refine lv_if_eq (tgt := 116) hx hb dX20_next_2_106 (by decide) (fun c_106 => ?_) (fun c_106 => ?_)
  · have hf := ip c_106 hf
    refine lv_aload_n hx hb dX20_next_2_116 rfl (lv_at hl 1 rfl) ?_
    obtain ⟨v_18, ev_18, hf⟩ := ob hf
    refine g_getN hX X I gfX20_92 (gI_in ev_18) dX20_next_2_117 ?_
    exact wX20_next_2_120 hX hR X XH hS N v_15 v_18 σ_16 _ _ _ _ _ I (lv_sub hl [] rfl) hf
  · have hf := im c_106 hf
    refine lv_aload_n hx hb dX20_next_2_109 rfl (lv_at hl 1 rfl) ?_
    obtain ⟨v_19, ev_19, hf⟩ := ob hf
    refine g_getN hX X I gfX20_89 (gI_in ev_19) dX20_next_2_110 ?_
    refine lv_goto (tgt := 120) hx hb dX20_next_2_113 (by decide) ?_
    exact wX20_next_2_120 hX hR X XH hS N v_15 v_19 σ_16 _ _ _ _ _ I (lv_sub hl [] rfl) hf
theorem wX20_next_2_0 {E : EV} {l : Launch} {p : Program} {e : Env} {s : State} {m : MethodId} {args : Array Value} {below : List Frame} {meth : Method} {c : Code} {R : Room} {res : ((Nat ⊕ Nat) × St)} (hX : XK E) (hR : 10 ≤ R.frames ∧ 223 ≤ R.locals) (X : MX E p s m args meth c cX20_next_2 3 (some (.object "java/lang/String")) RX20 "next") (XH : MH c []) (hS : l.stackTraces = false) (N : Nat) : ∀ (x0 : Nat) (σ : St) (H : Heap) (locs : List Loc) (cells slots : Nat) (ls : Array Slot), WI E R s σ H locs cells slots → lv_has ls 3 [(0, .ref x0)] → fX20_next_2 N E.2.2.2.1 σ x0 = some res → W p l e R s m args below meth c H locs cells slots (vx_MQ below (QS E R.cells R.slots (sv (fun v => (some (.ref v))) res.1) res.2) (XS E R.cells R.slots (sx res.1) res.2) args s R.cells R.slots (fr E)) (F0 m 0 ls []) := by
  intro x0 σ H locs cells slots ls I hl hf
  obtain ⟨⟨hx, hb, hml, hown, hts⟩, -⟩ := id X
  unfold fX20_next_2 at hf
  refine lv_aload_n hx hb dX20_next_2_0 rfl (lv_at hl 0 rfl) ?_
  obtain ⟨u_20, eu_20, hf⟩ := ob hf
  obtain ⟨v_21, ev_21, hf⟩ := ob hf
  refine cg_V (vw := (RX20, TX20, 2)) (ci := 18) (r := (some (.int v_21))) (σ' := σ) (rs := [.int v_21]) (rest := []) (As := []) X I eu_20 rfl (mX20_hasNext hX ev_21) lvX20_35 hdX20_35 ⟨Nat.le_trans (Nat.le_of_ble_eq_true rfl) hR.1, Nat.le_trans (Nat.le_of_ble_eq_true rfl) hR.2⟩ rfl hl.1 rfl (Nat.le_of_ble_eq_true rfl) rfl dX20_next_2_1 (fun H locs cells slots I => ?_)
  obtain ⟨⟨v_23, σ_24⟩, ev_23, hf⟩ := ob hf
  have hgv_23 := hf
  rcases v_23 with v_25 | q_26
  · have hf := se_l hgv_23
    refine cx_ret (r := none) (rs := []) I (xr_SN (σ' := σ_24) (rest := []) (As := [.int v_21]) hX X I (mX1_requireExists hX hS ev_23) lvX20_39 hdX20_39 ⟨Nat.le_trans (Nat.le_of_ble_eq_true rfl) hR.1, Nat.le_trans (Nat.le_of_ble_eq_true rfl) hR.2⟩ rfl hl.1 rfl (Nat.le_of_ble_eq_true rfl) dX20_next_2_4) rfl (fun H locs cells slots I => ?_)
    refine lv_aload_n hx hb dX20_next_2_7 rfl (lv_at hl 0 rfl) ?_
    obtain ⟨v_27, ev_27, hf⟩ := ob hf
    refine g_get X I gfX20_1 (gR_in ev_27) dX20_next_2_8 ?_
    obtain ⟨a_28, ea_28, hga_28⟩ := ob hf
    have hla_28 := hl
    have Ia_28 := I
    subst ea_28
    have hf := hga_28
    have hl := hla_28
    have I := Ia_28
    obtain ⟨v_29, ev_29, hf⟩ := ob hf
    refine g_getN hX X I gfX20_17 (gR_in ev_29) dX20_next_2_11 ?_
    obtain ⟨a_30, ea_30, hga_30⟩ := ob hf
    have hla_30 := hl
    have Ia_30 := I
    subst ea_30
    have hf := hga_30
    have hl := hla_30
    have I := Ia_30
    obtain ⟨v_31, ev_31, hf⟩ := ob hf
    refine g_getN hX X I gfX20_23 (gR_in ev_31) dX20_next_2_14 ?_
    refine lv_aload_n hx hb dX20_next_2_17 rfl (lv_at hl 0 rfl) ?_
    obtain ⟨v_32, ev_32, hf⟩ := ob hf
    refine g_get X I gfX20_13 (gI_in ev_32) dX20_next_2_18 ?_
    obtain ⟨a_33, ea_33, hga_33⟩ := ob hf
    have hla_33 := hl
    have Ia_33 := I
    subst ea_33
    have hf := hga_33
    have hl := hla_33
    have I := Ia_33
    obtain ⟨u_34, eu_34, hf⟩ := ob hf
    obtain ⟨v_35, ev_35, hf⟩ := ob hf
    refine cg_F (vw := (RJ2, TJ2, 3)) (ci := 21) (r := (some (va_rf v_35))) (σ' := σ_24) (rs := [va_rf v_35]) (rest := []) (As := [.int v_32]) hX X I eu_34 rfl (mJ2_get hX ev_35) lvX20_45_J2 hdX20_45_J2 ⟨Nat.le_trans (Nat.le_of_ble_eq_true rfl) hR.1, Nat.le_trans (Nat.le_of_ble_eq_true rfl) hR.2⟩ rfl hl.1 rfl (Nat.le_of_ble_eq_true rfl) rfl dX20_next_2_21 (fun H locs cells slots I => ?_)
    obtain ⟨a_37, ea_37, hga_37⟩ := ob hf
    have hla_37 := hl
    have Ia_37 := I
    subst ea_37
    have hf := hga_37
    have hl := hla_37
    have I := Ia_37
    obtain ⟨u_38, eu_38, hf⟩ := ob hf
    refine g_cast (vw := (RX15, TX15, 2)) X I rfl q504 eu_38 dX20_next_2_26 ?_
    refine lv_astore_n (lv' := [(1, .ref a_37), (0, .ref x0)]) hx hb dX20_next_2_29 rfl hl (by decide) rfl (fun ls hl => ?_)
    refine lv_aload_n hx hb dX20_next_2_30 rfl (lv_at hl 1 rfl) ?_
    obtain ⟨v_39, ev_39, hf⟩ := ob hf
    refine g_get X I gfX20_1 (gR_in ev_39) dX20_next_2_31 ?_
    obtain ⟨a_40, ea_40, hga_40⟩ := ob hf
    have hla_40 := hl
    have Ia_40 := I
    subst ea_40
    have hf := hga_40
    have hl := hla_40
    have I := Ia_40
    obtain ⟨v_41, ev_41, hf⟩ := ob hf
    refine g_get X I gfX20_51 (gR_in ev_41) dX20_next_2_34 ?_
    obtain ⟨a_42, ea_42, hga_42⟩ := ob hf
    have hla_42 := hl
    have Ia_42 := I
    subst ea_42
    have hf := hga_42
    have hl := hla_42
    have I := Ia_42
    obtain ⟨v_43, ev_43, hf⟩ := ob hf
    refine g_getN hX X I gfX20_55 (gR_in ev_43) dX20_next_2_37 ?_
    obtain ⟨a_44, ea_44, hga_44⟩ := ob hf
    have hla_44 := hl
    have Ia_44 := I
    subst ea_44
    have hf := hga_44
    have hl := hla_44
    have I := Ia_44
    obtain ⟨v_45, ev_45, hf⟩ := ob hf
    refine g_getN hX X I gfX20_59 (gR_in ev_45) dX20_next_2_40 ?_
    refine lv_aload_n hx hb dX20_next_2_43 rfl (lv_at hl 0 rfl) ?_
    obtain ⟨v_46, ev_46, hf⟩ := ob hf
    refine g_getN hX X I gfX20_64 (gI_in ev_46) dX20_next_2_44 ?_
    obtain ⟨a_47, ea_47, hga_47⟩ := ob hf
    have hla_47 := hl
    have Ia_47 := I
    subst ea_47
    have hf := hga_47
    have hl := hla_47
    have I := Ia_47
    obtain ⟨u_48, eu_48, hf⟩ := ob hf
    obtain ⟨v_49, ev_49, hf⟩ := ob hf
    refine cg_F (vw := (RJ2, TJ2, 3)) (ci := 21) (r := (some (va_rf v_49))) (σ' := σ_24) (rs := [va_rf v_49]) (rest := []) (As := [.int v_46]) hX X I eu_48 rfl (mJ2_get hX ev_49) lvX20_45_J2 hdX20_45_J2 ⟨Nat.le_trans (Nat.le_of_ble_eq_true rfl) hR.1, Nat.le_trans (Nat.le_of_ble_eq_true rfl) hR.2⟩ rfl hl.1 rfl (Nat.le_of_ble_eq_true rfl) rfl dX20_next_2_47 (fun H locs cells slots I => ?_)
    obtain ⟨a_51, ea_51, hga_51⟩ := ob hf
    have hla_51 := hl
    have Ia_51 := I
    subst ea_51
    have hf := hga_51
    have hl := hla_51
    have I := Ia_51
    obtain ⟨u_52, eu_52, hf⟩ := ob hf
    refine g_cast (vw := (RX16, TX16, 15)) X I rfl q505 eu_52 dX20_next_2_52 ?_
    refine lv_astore_n (lv' := [(2, .ref a_51), (1, .ref a_37), (0, .ref x0)]) hx hb dX20_next_2_55 rfl hl (by decide) rfl (fun ls hl => ?_)
    refine lv_aload_n hx hb dX20_next_2_56 rfl (lv_at hl 2 rfl) ?_
    refine lv_dup hx hb dX20_next_2_57 rfl ?_
    obtain ⟨v_53, ev_53, hf⟩ := ob hf
    refine g_get X I gfX20_13 (gI_in ev_53) dX20_next_2_58 ?_
    refine lv_iconst (v := 1) hx hb dX20_next_2_61 (by decide) ?_
    refine lv_iadd hx hb dX20_next_2_62 ?_
    obtain ⟨σ_54, eσ_54, hf⟩ := ob hf
    refine g_put X I pfX20_13 rfl rfl eσ_54 dX20_next_2_63 (fun H locs I => ?_)
    obtain ⟨⟨q_55a, q_55s⟩, eq_55, hf⟩ := ob hf
    refine g_new X I noX20_69 eq_55 dX20_next_2_66 (fun H locs cells slots I => ?_)
    refine lv_dup hx hb dX20_next_2_69 rfl ?_
    obtain ⟨σ_57, ev_56, hf⟩ := ob hf
    refine cm_I (σ' := σ_57) (rs := [.ref q_55a]) (rest := [.ref q_55a]) (As := []) X I (mJ9_init hX ev_56) lvX20_71 hdX20_71 ⟨Nat.le_trans (Nat.le_of_ble_eq_true rfl) hR.1, Nat.le_trans (Nat.le_of_ble_eq_true rfl) hR.2⟩ rfl hl.1 rfl (Nat.le_of_ble_eq_true rfl) rfl dX20_next_2_70 (fun H locs cells slots I => ?_)
    refine lv_aload_n hx hb dX20_next_2_73 rfl (lv_at hl 1 rfl) ?_
    obtain ⟨v_58, ev_58, hf⟩ := ob hf
    refine g_getN hX X I gfX20_72 (gI_in ev_58) dX20_next_2_74 ?_
    refine lv_if_eq (tgt := 85) hx hb dX20_next_2_77 (by decide) (fun c_77 => ?_) (fun c_77 => ?_)
    · have hf := ip c_77 hf
      refine g_ldcS hX X (tx := "-") (k := 134) (List.mem_of_getElem? (i := 34) rfl) dX20_next_2_85 ?_
      exact wX20_next_2_87 hX hR X XH hS N a_37 a_51 q_55a (E.2.2.2.1 134) σ_57 _ _ _ _ _ I (lv_sub hl [1, 0] rfl) hf
    · have hf := im c_77 hf
      refine g_ldcS hX X (tx := "+") (k := 133) (List.mem_of_getElem? (i := 33) rfl) dX20_next_2_80 ?_
      refine lv_goto (tgt := 87) hx hb dX20_next_2_82 (by decide) ?_
      exact wX20_next_2_87 hX hR X XH hS N a_37 a_51 q_55a (E.2.2.2.1 133) σ_57 _ _ _ _ _ I (lv_sub hl [1, 0] rfl) hf
  · have hf := se_r hgv_23
    obtain ⟨uq_26, eq_26, hf⟩ := ob hf
    cases os hf
    refine cx_thr I (xr_SN (σ' := σ_24) (rest := []) (As := [.int v_21]) hX X I (mX1_requireExists hX hS ev_23) lvX20_39 hdX20_39 ⟨Nat.le_trans (Nat.le_of_ble_eq_true rfl) hR.1, Nat.le_trans (Nat.le_of_ble_eq_true rfl) hR.2⟩ rfl hl.1 rfl (Nat.le_of_ble_eq_true rfl) dX20_next_2_4) (fun H locs cells slots I => ?_)
    exact x_out X XH rfl I eq_26
theorem mX20_next_2 {E : EV} {l : Launch} {N : Nat} {σ : St} {x0 : Nat} {res : ((Nat ⊕ Nat) × St)} (hX : XK E) (hS : l.stackTraces = false) (hf : fX20_next_2 N E.2.2.2.1 σ x0 = some res) : CX E l yX20_next_2 (ws_ yX20_next_2 cX20_next_2 3 (some (.object "java/lang/String"))) 10 223 [.ref x0] σ (sv (fun v => (some (.ref v))) res.1) (sx res.1) res.2 := by
  refine CX.of hX.1 (by decide) rfl rfl (Nat.le_of_ble_eq_true rfl) ?_
  intro p e s m below meth c X XH I ls hl
  exact wX20_next_2_0 hX ⟨Nat.le_refl _, Nat.le_refl _⟩ X XH hS N _ _ _ _ _ _ _ I hl hf
/-! SharedTaxis$Words$1.next()Ljava/lang/Object; imp=True fuel=True kap=True rt=N thr=True -/
theorem lvX20_99 : GoodIn lw_all (wsV RX20 99 RX20 yX20_next_2 (ws_ yX20_next_2 cX20_next_2 3 (some (.object "java/lang/String")))) := lw_V q407 q408 q409 q160 q410
theorem hdX20_99 : yX20_next_2.cls = RX20 ∧ yX20_next_2.cls ≠ "java/lang/invoke/MethodHandle" ∧ yX20_next_2.cls ≠ "java/lang/invoke/VarHandle" ∧ (parseMethodDescriptor yX20_next_2.desc).map (fun d => d.parameters.length) = some 0 := by decide +kernel
def fX20_next (N : Nat) (κ : Nat → Nat) (σ : St) (x0 : Nat) : Option ((Nat ⊕ Nat) × St) := (isC σ x0 18).bind fun u_1 : Unit => (fX20_next_2 N κ σ x0).bind fun (v_2, σ_3) => se v_2 (fun v_4 => some (.inl (v_4), σ_3)) (fun q_5 => (isX σ_3 q_5).bind fun uq_5 : Unit => some (.inr q_5, σ_3))
theorem wX20_next_0 {E : EV} {l : Launch} {p : Program} {e : Env} {s : State} {m : MethodId} {args : Array Value} {below : List Frame} {meth : Method} {c : Code} {R : Room} {res : ((Nat ⊕ Nat) × St)} (hX : XK E) (hR : 11 ≤ R.frames ∧ 245 ≤ R.locals) (X : MX E p s m args meth c cX20_next 1 (some (.object "java/lang/Object")) RX20 "next") (XH : MH c []) (hS : l.stackTraces = false) (N : Nat) : ∀ (x0 : Nat) (σ : St) (H : Heap) (locs : List Loc) (cells slots : Nat) (ls : Array Slot), WI E R s σ H locs cells slots → lv_has ls 1 [(0, .ref x0)] → fX20_next N E.2.2.2.1 σ x0 = some res → W p l e R s m args below meth c H locs cells slots (vx_MQ below (QS E R.cells R.slots (sv (fun v => (some (.ref v))) res.1) res.2) (XS E R.cells R.slots (sx res.1) res.2) args s R.cells R.slots (fr E)) (F0 m 0 ls []) := by
  intro x0 σ H locs cells slots ls I hl hf
  obtain ⟨⟨hx, hb, hml, hown, hts⟩, -⟩ := id X
  unfold fX20_next at hf
  refine lv_aload_n hx hb dX20_next_0 rfl (lv_at hl 0 rfl) ?_
  obtain ⟨u_1, eu_1, hf⟩ := ob hf
  obtain ⟨⟨v_2, σ_3⟩, ev_2, hf⟩ := ob hf
  have hgv_2 := hf
  rcases v_2 with v_4 | q_5
  · have hf := se_l hgv_2
    refine cx_ret (r := (some (.ref v_4))) (rs := [.ref v_4]) I (xr_V (vw := (RX20, TX20, 2)) (ci := 18) (σ' := σ_3) (rest := []) (As := []) X I eu_1 rfl (mX20_next_2 hX hS ev_2) lvX20_99 hdX20_99 ⟨Nat.le_trans (Nat.le_of_ble_eq_true rfl) hR.1, Nat.le_trans (Nat.le_of_ble_eq_true rfl) hR.2⟩ rfl hl.1 rfl (Nat.le_of_ble_eq_true rfl) dX20_next_1) rfl (fun H locs cells slots I => ?_)
    cases os hf
    exact x_ret (r_aret X I (Or.inl ⟨_, rfl⟩) (Or.inr ⟨_, rfl⟩) dX20_next_4)
  · have hf := se_r hgv_2
    obtain ⟨uq_5, eq_5, hf⟩ := ob hf
    cases os hf
    refine cx_thr I (xr_V (vw := (RX20, TX20, 2)) (ci := 18) (σ' := σ_3) (rest := []) (As := []) X I eu_1 rfl (mX20_next_2 hX hS ev_2) lvX20_99 hdX20_99 ⟨Nat.le_trans (Nat.le_of_ble_eq_true rfl) hR.1, Nat.le_trans (Nat.le_of_ble_eq_true rfl) hR.2⟩ rfl hl.1 rfl (Nat.le_of_ble_eq_true rfl) dX20_next_1) (fun H locs cells slots I => ?_)
    exact x_out X XH rfl I eq_5
theorem mX20_next {E : EV} {l : Launch} {N : Nat} {σ : St} {x0 : Nat} {res : ((Nat ⊕ Nat) × St)} (hX : XK E) (hS : l.stackTraces = false) (hf : fX20_next N E.2.2.2.1 σ x0 = some res) : CX E l yX20_next (ws_ yX20_next cX20_next 1 (some (.object "java/lang/Object"))) 11 245 [.ref x0] σ (sv (fun v => (some (.ref v))) res.1) (sx res.1) res.2 := by
  refine CX.of hX.1 (by decide) rfl rfl (Nat.le_of_ble_eq_true rfl) ?_
  intro p e s m below meth c X XH I ls hl
  exact wX20_next_0 hX ⟨Nat.le_refl _, Nat.le_refl _⟩ X XH hS N _ _ _ _ _ _ _ I hl hf
/-! SharedTaxis.format(I)I imp=True fuel=True kap=True rt=I thr=True -/
theorem lvX1_517 : GoodIn lw_all (wsV RX1 517 RJ9 yJ9_append (ws_ yJ9_append cJ9_append 2 (some (.object "java/lang/StringBuilder")))) := lw_V q2462 q540 q541 q128 q542
theorem hdX1_517 : yJ9_append.cls = RJ9 ∧ yJ9_append.cls ≠ "java/lang/invoke/MethodHandle" ∧ yJ9_append.cls ≠ "java/lang/invoke/VarHandle" ∧ (parseMethodDescriptor yJ9_append.desc).map (fun d => d.parameters.length) = some 1 := by decide +kernel
theorem lvX1_194_X20 : GoodIn lw_all (va_wsF RX1 194 RX20 ⟨"java/util/Iterator", "hasNext", "()Z"⟩ yX20_hasNext (ws_ yX20_hasNext cX20_hasNext 1 (some .boolean))) ∧ (RX20, ⟨"java/util/Iterator", "hasNext", "()Z"⟩, yX20_hasNext) ∈ FWL := ⟨lw_good (List.forall_mem_cons.mpr ⟨q368, List.forall_mem_cons.mpr ⟨q372, List.forall_mem_cons.mpr ⟨q374, List.forall_mem_cons.mpr ⟨q160, fun w h => (lw_meth q376 w h).1⟩⟩⟩⟩), List.mem_of_getElem? (i := 2) rfl⟩
theorem hdX1_194_X20 : (⟨"java/util/Iterator", "hasNext", "()Z"⟩ : MethodName).cls ≠ "java/lang/invoke/MethodHandle" ∧ (⟨"java/util/Iterator", "hasNext", "()Z"⟩ : MethodName).cls ≠ "java/lang/invoke/VarHandle" ∧ (parseMethodDescriptor (⟨"java/util/Iterator", "hasNext", "()Z"⟩ : MethodName).desc).map (fun d => d.parameters.length) = some 0 := by decide +kernel
theorem lvX1_520 : GoodIn lw_all (wsV RX1 520 RJ9 yJ9_toString (ws_ yJ9_toString cJ9_toString 1 (some (.object "java/lang/String")))) := lw_V q2463 q686 q687 q128 q688
theorem hdX1_520 : yJ9_toString.cls = RJ9 ∧ yJ9_toString.cls ≠ "java/lang/invoke/MethodHandle" ∧ yJ9_toString.cls ≠ "java/lang/invoke/VarHandle" ∧ (parseMethodDescriptor yJ9_toString.desc).map (fun d => d.parameters.length) = some 0 := by decide +kernel
theorem pfX1_99 : ∀ q ∈ ([(0, 6)] : List (Nat × Nat)), PF RX1 99 (.object "java/lang/String") q := List.forall_mem_cons.mpr ⟨⟨RX1, TX1, 7, _, tyX1, rfl, in_X1, by decide, q306, Or.inl rfl, tyX1_ok, nmX1, rfl, rfl⟩, fun _ h => by cases h⟩
theorem gfX1_99 : ∀ q ∈ ([(0, 6)] : List (Nat × Nat)), GF RX1 99 q := List.forall_mem_cons.mpr ⟨⟨RX1, TX1, 7, _, rfl, in_X1, by decide, q306, Or.inl rfl⟩, fun _ h => by cases h⟩
theorem lvX1_524 : GoodIn lw_all (wsV RX1 524 RJ10 yJ10_length (ws_ yJ10_length cJ10_length 1 (some .int))) := lw_V q810 q617 q618 q129 q619
theorem hdX1_524 : yJ10_length.cls = RJ10 ∧ yJ10_length.cls ≠ "java/lang/invoke/MethodHandle" ∧ yJ10_length.cls ≠ "java/lang/invoke/VarHandle" ∧ (parseMethodDescriptor yJ10_length.desc).map (fun d => d.parameters.length) = some 0 := by decide +kernel
theorem lvX1_200_X20 : GoodIn lw_all (va_wsF RX1 200 RX20 ⟨"java/util/Iterator", "next", "()Ljava/lang/Object;"⟩ yX20_next (ws_ yX20_next cX20_next 1 (some (.object "java/lang/Object")))) ∧ (RX20, ⟨"java/util/Iterator", "next", "()Ljava/lang/Object;"⟩, yX20_next) ∈ FWL := ⟨lw_good (List.forall_mem_cons.mpr ⟨q399, List.forall_mem_cons.mpr ⟨q402, List.forall_mem_cons.mpr ⟨q404, List.forall_mem_cons.mpr ⟨q160, fun w h => (lw_meth q406 w h).1⟩⟩⟩⟩), List.mem_of_getElem? (i := 3) rfl⟩
theorem hdX1_200_X20 : (⟨"java/util/Iterator", "next", "()Ljava/lang/Object;"⟩ : MethodName).cls ≠ "java/lang/invoke/MethodHandle" ∧ (⟨"java/util/Iterator", "next", "()Ljava/lang/Object;"⟩ : MethodName).cls ≠ "java/lang/invoke/VarHandle" ∧ (parseMethodDescriptor (⟨"java/util/Iterator", "next", "()Ljava/lang/Object;"⟩ : MethodName).desc).map (fun d => d.parameters.length) = some 0 := by decide +kernel
theorem lvX1_512 : GoodIn lw_all (wsV RX1 512 RJ9 yJ9_length (ws_ yJ9_length cJ9_length 1 (some .int))) := lw_V q2460 q707 q3347 q128 q708
theorem hdX1_512 : yJ9_length.cls = RJ9 ∧ yJ9_length.cls ≠ "java/lang/invoke/MethodHandle" ∧ yJ9_length.cls ≠ "java/lang/invoke/VarHandle" ∧ (parseMethodDescriptor yJ9_length.desc).map (fun d => d.parameters.length) = some 0 := by decide +kernel
theorem lvX1_502 : GoodIn lw_all (ws_ yJ9_init_2 cJ9_init_2 2 none) ∧ Cond.initialized yJ9_init_2.cls ∈ lw_all ∧ Cond.methodLink RX1 502 yJ9_init_2 ∈ lw_all ∧ Cond.instanceMethod yJ9_init_2 ∈ lw_all ∧ yJ9_init_2.name = "<init>" := ⟨lw_meth q2380, q128, q2378, q2379, rfl⟩
theorem hdX1_502 : yJ9_init_2.cls ≠ "java/lang/invoke/MethodHandle" ∧ yJ9_init_2.cls ≠ "java/lang/invoke/VarHandle" ∧ (parseMethodDescriptor yJ9_init_2.desc).map (fun d => d.parameters.length) = some 1 := by decide +kernel
theorem lvX1_505 : GoodIn lw_all (wsV RX1 505 RX1 yX1_wordsOf (ws_ yX1_wordsOf cX1_wordsOf 2 (some (.object "java/lang/Iterable")))) := lw_V q2389 q2391 qs37 q113 q2392
theorem hdX1_505 : yX1_wordsOf.cls = RX1 ∧ yX1_wordsOf.cls ≠ "java/lang/invoke/MethodHandle" ∧ yX1_wordsOf.cls ≠ "java/lang/invoke/VarHandle" ∧ (parseMethodDescriptor yX1_wordsOf.desc).map (fun d => d.parameters.length) = some 1 := by decide +kernel
theorem lvX1_509_X19 : GoodIn lw_all (va_wsF RX1 509 RX19 ⟨"java/lang/Iterable", "iterator", "()Ljava/util/Iterator;"⟩ yX19_iterator (ws_ yX19_iterator cX19_iterator 1 (some (.object "java/util/Iterator")))) ∧ (RX19, ⟨"java/lang/Iterable", "iterator", "()Ljava/util/Iterator;"⟩, yX19_iterator) ∈ FWL := ⟨lw_good (List.forall_mem_cons.mpr ⟨q2409, List.forall_mem_cons.mpr ⟨q2413, List.forall_mem_cons.mpr ⟨q2415, List.forall_mem_cons.mpr ⟨q159, fun w h => (lw_meth q2417 w h).1⟩⟩⟩⟩), List.mem_of_getElem? (i := 1) rfl⟩
theorem hdX1_509_X19 : (⟨"java/lang/Iterable", "iterator", "()Ljava/util/Iterator;"⟩ : MethodName).cls ≠ "java/lang/invoke/MethodHandle" ∧ (⟨"java/lang/Iterable", "iterator", "()Ljava/util/Iterator;"⟩ : MethodName).cls ≠ "java/lang/invoke/VarHandle" ∧ (parseMethodDescriptor (⟨"java/lang/Iterable", "iterator", "()Ljava/util/Iterator;"⟩ : MethodName).desc).map (fun d => d.parameters.length) = some 0 := by decide +kernel
theorem noX1_495 : NO RX1 495 25 4 [.null, .int 0, .int 0, .int 0] := ⟨RJ9, TJ9, tyJ9, rfl, in_J9, tyJ9_ok, by decide, q2374, q507, q128⟩
theorem lvX1_497_J2 : GoodIn lw_all (va_wsF RX1 497 RJ2 ⟨"java/util/List", "isEmpty", "()Z"⟩ yJ2_isEmpty (ws_ yJ2_isEmpty cJ2_isEmpty 1 (some .boolean))) ∧ (RJ2, ⟨"java/util/List", "isEmpty", "()Z"⟩, yJ2_isEmpty) ∈ FWL := ⟨lw_good (List.forall_mem_cons.mpr ⟨q2376, List.forall_mem_cons.mpr ⟨q1881, List.forall_mem_cons.mpr ⟨q1883, List.forall_mem_cons.mpr ⟨q118, fun w h => (lw_meth q1885 w h).1⟩⟩⟩⟩), List.mem_of_getElem? (i := 12) rfl⟩
theorem hdX1_497_J2 : (⟨"java/util/List", "isEmpty", "()Z"⟩ : MethodName).cls ≠ "java/lang/invoke/MethodHandle" ∧ (⟨"java/util/List", "isEmpty", "()Z"⟩ : MethodName).cls ≠ "java/lang/invoke/VarHandle" ∧ (parseMethodDescriptor (⟨"java/util/List", "isEmpty", "()Z"⟩ : MethodName).desc).map (fun d => d.parameters.length) = some 0 := by decide +kernel
def fX1_format_84 (N : Nat) (κ : Nat → Nat) (r46 : Nat → Nat → Nat → St → Option ((Int32 ⊕ Nat) × St)) (x0 : Nat) (x3 : Nat) (x4 : Nat) (x5 : Nat) (y0 : Nat) (y1 : Nat) (σ : St) : Option ((Int32 ⊕ Nat) × St) := (isC σ y0 25).bind fun u_1 : Unit => (fJ9_append N κ σ y0 y1).bind fun (v_2, σ_3) => (isC σ_3 v_2 25).bind fun u_4 : Unit => (fJ9_append N κ σ_3 v_2 x5).bind fun (v_5, σ_6) => r46 x0 x3 x4 σ_6
def fX1_format_46 (N : Nat) (κ : Nat → Nat) : Nat → Nat → Nat → Nat → St → Option ((Int32 ⊕ Nat) × St)
  | 0, _, _, _, _ => none
  | n + 1, x0, x3, x4, σ => (isC σ x4 18).bind fun u_7 : Unit => (fX20_hasNext σ x4).bind fun v_8 : Int32 => if v_8 = 0 then (isC σ x3 25).bind fun u_10 : Unit => (fJ9_toString N κ σ x3).bind fun (v_11, σ_12) => (pV σ_12 x0 [(0, 6)] (.ref v_11)).bind fun σ_13 : St => (gR σ_13 x0 [(0, 6)]).bind fun v_14 : Option Nat => (v_14).bind fun a_15 : Nat => (isC σ_13 a_15 26).bind fun u_16 : Unit => (fJ10_length κ σ_13 a_15).bind fun v_17 : Int32 => some (.inl v_17, σ_13) else (isC σ x4 18).bind fun u_19 : Unit => (fX20_next N κ σ x4).bind fun (v_20, σ_21) => se v_20 (fun v_22 => (isC σ_21 v_22 26).bind fun u_24 : Unit => (isC σ_21 x3 25).bind fun u_25 : Unit => (fJ9_length σ_21 x3).bind fun v_26 : Int32 => if v_26 ≤ 0 then fX1_format_84 N κ (fX1_format_46 N κ n) x0 x3 x4 v_22 x3 (κ 116) σ_21 else fX1_format_84 N κ (fX1_format_46 N κ n) x0 x3 x4 v_22 x3 (κ 119) σ_21) (fun q_23 => none)
def fX1_format_30 (N : Nat) (κ : Nat → Nat) (x0 : Nat) (x2 : Nat) (y0 : Nat) (y1 : Nat) (y2 : Nat) (σ : St) : Option ((Int32 ⊕ Nat) × St) := (fJ9_init_2 N κ σ y1 y2).bind fun σ_29 : St => (isC σ_29 x0 0).bind fun u_30 : Unit => (fX1_wordsOf σ_29 x0 x2).bind fun (v_31, σ_32) => (isC σ_32 v_31 17).bind fun u_33 : Unit => (fX19_iterator σ_32 v_31).bind fun (v_34, σ_35) => fX1_format_46 N κ N x0 y0 v_34 σ_35
def fX1_format (N : Nat) (κ : Nat → Nat) (σ : St) (x0 : Nat) (x1 : Int32) : Option ((Int32 ⊕ Nat) × St) := (isC σ x0 0).bind fun u_36 : Unit => (fX1_taxiAt σ x0 x1).bind fun (v_37, σ_38) => se v_37 (fun v_39 => (nH σ_38 4 (.inr (25, [.null, .int 0, .int 0, .int 0]))).bind fun (q_41a, q_41s) => (gR q_41s v_39 [(10, 7)]).bind fun v_42 : Option Nat => (v_42).bind fun a_43 : Nat => (isC q_41s a_43 21).bind fun u_44 : Unit => (fJ2_isEmpty q_41s a_43).bind fun v_45 : Int32 => if v_45 = 0 then fX1_format_30 N κ x0 v_39 q_41a q_41a (κ 116) q_41s else fX1_format_30 N κ x0 v_39 q_41a q_41a (κ 118) q_41s) (fun q_40 => (isX σ_38 q_40).bind fun uq_40 : Unit => some (.inr q_40, σ_38))
theorem wX1_format_84 {E : EV} {l : Launch} {p : Program} {e : Env} {s : State} {m : MethodId} {args : Array Value} {below : List Frame} {meth : Method} {c : Code} {R : Room} {res : ((Int32 ⊕ Nat) × St)} (hX : XK E) (hR : 13 ≤ R.frames ∧ 289 ≤ R.locals) (X : MX E p s m args meth c cX1_format 6 (some .int) RX1 "format") (XH : MH c []) (hS : l.stackTraces = false) (N : Nat) (r46 : Nat → Nat → Nat → St → Option ((Int32 ⊕ Nat) × St)) (hr46 : ∀ (x0 : Nat) (x3 : Nat) (x4 : Nat) (σ : St) (H : Heap) (locs : List Loc) (cells slots : Nat) (ls : Array Slot), WI E R s σ H locs cells slots → lv_has ls 6 [(0, .ref x0), (3, .ref x3), (4, .ref x4)] → r46 x0 x3 x4 σ = some res → W p l e R s m args below meth c H locs cells slots (vx_MQ below (QS E R.cells R.slots (sv (fun v => (some (.int v))) res.1) res.2) (XS E R.cells R.slots (sx res.1) res.2) args s R.cells R.slots (fr E)) (F0 m 46 ls [])) : ∀ (x0 : Nat) (x3 : Nat) (x4 : Nat) (x5 : Nat) (y0 : Nat) (y1 : Nat) (σ : St) (H : Heap) (locs : List Loc) (cells slots : Nat) (ls : Array Slot), WI E R s σ H locs cells slots → lv_has ls 6 [(0, .ref x0), (3, .ref x3), (4, .ref x4), (5, .ref x5)] → fX1_format_84 N E.2.2.2.1 r46 x0 x3 x4 x5 y0 y1 σ = some res → W p l e R s m args below meth c H locs cells slots (vx_MQ below (QS E R.cells R.slots (sv (fun v => (some (.int v))) res.1) res.2) (XS E R.cells R.slots (sx res.1) res.2) args s R.cells R.slots (fr E)) (F0 m 84 ls [.ref y1, .ref y0]) := by
  intro x0 x3 x4 x5 y0 y1 σ H locs cells slots ls I hl hf
  obtain ⟨⟨hx, hb, hml, hown, hts⟩, -⟩ := id X
  unfold fX1_format_84 at hf
  obtain ⟨u_1, eu_1, hf⟩ := ob hf
  obtain ⟨⟨v_2, σ_3⟩, ev_2, hf⟩ := ob hf
  refine cg_V (vw := (RJ9, TJ9, 4)) (ci := 25) (r := (some (.ref v_2))) (σ' := σ_3) (rs := [.ref v_2]) (rest := []) (As := [.ref y1]) X I eu_1 rfl (mJ9_append hX ev_2) lvX1_517 hdX1_517 ⟨Nat.le_trans (Nat.le_of_ble_eq_true rfl) hR.1, Nat.le_trans (Nat.le_of_ble_eq_true rfl) hR.2⟩ rfl hl.1 rfl (Nat.le_of_ble_eq_true rfl) rfl dX1_format_84 (fun H locs cells slots I => ?_)
  refine lv_aload hx hb dX1_format_87 (lv_at hl 3 rfl) ?_
  obtain ⟨u_4, eu_4, hf⟩ := ob hf
  obtain ⟨⟨v_5, σ_6⟩, ev_5, hf⟩ := ob hf
  refine cg_V (vw := (RJ9, TJ9, 4)) (ci := 25) (r := (some (.ref v_5))) (σ' := σ_6) (rs := [.ref v_5]) (rest := []) (As := [.ref x5]) X I eu_4 rfl (mJ9_append hX ev_5) lvX1_517 hdX1_517 ⟨Nat.le_trans (Nat.le_of_ble_eq_true rfl) hR.1, Nat.le_trans (Nat.le_of_ble_eq_true rfl) hR.2⟩ rfl hl.1 rfl (Nat.le_of_ble_eq_true rfl) rfl dX1_format_89 (fun H locs cells slots I => ?_)
  refine lv_pop hx hb dX1_format_92 rfl ?_
  refine lv_goto (tgt := 46) hx hb dX1_format_93 (by decide) ?_
  exact hr46 x0 x3 x4 σ_6 _ _ _ _ _ I (lv_sub hl [0, 1, 2] rfl) hf
theorem wX1_format_46 {E : EV} {l : Launch} {p : Program} {e : Env} {s : State} {m : MethodId} {args : Array Value} {below : List Frame} {meth : Method} {c : Code} {R : Room} {res : ((Int32 ⊕ Nat) × St)} (hX : XK E) (hR : 13 ≤ R.frames ∧ 289 ≤ R.locals) (X : MX E p s m args meth c cX1_format 6 (some .int) RX1 "format") (XH : MH c []) (hS : l.stackTraces = false) (N : Nat) : ∀ (n : Nat) (x0 : Nat) (x3 : Nat) (x4 : Nat) (σ : St) (H : Heap) (locs : List Loc) (cells slots : Nat) (ls : Array Slot), WI E R s σ H locs cells slots → lv_has ls 6 [(0, .ref x0), (3, .ref x3), (4, .ref x4)] → fX1_format_46 N E.2.2.2.1 n x0 x3 x4 σ = some res → W p l e R s m args below meth c H locs cells slots (vx_MQ below (QS E R.cells R.slots (sv (fun v => (some (.int v))) res.1) res.2) (XS E R.cells R.slots (sx res.1) res.2) args s R.cells R.slots (fr E)) (F0 m 46 ls []) := by
  intro n
  induction n with
  | zero => intro x0 x3 x4 σ H locs cells slots ls I hl hf; exact nomatch (show none = some res from hf)
  | succ n ih =>
    intro x0 x3 x4 σ H locs cells slots ls I hl hf
    obtain ⟨⟨hx, hb, hml, hown, hts⟩, -⟩ := id X
    rw [fX1_format_46.eq_2] at hf
    refine lv_aload hx hb dX1_format_46 (lv_at hl 2 rfl) ?_
    obtain ⟨u_7, eu_7, hf⟩ := ob hf
    obtain ⟨v_8, ev_8, hf⟩ := ob hf
    refine cg_F (vw := (RX20, TX20, 2)) (ci := 18) (r := (some (.int v_8))) (σ' := σ) (rs := [.int v_8]) (rest := []) (As := []) hX X I eu_7 rfl (mX20_hasNext hX ev_8) lvX1_194_X20 hdX1_194_X20 ⟨Nat.le_trans (Nat.le_of_ble_eq_true rfl) hR.1, Nat.le_trans (Nat.le_of_ble_eq_true rfl) hR.2⟩ rfl hl.1 rfl (Nat.le_of_ble_eq_true rfl) rfl dX1_format_48 (fun H locs cells slots I => ?_)
    refine lv_if_eq (tgt := 96) hx hb dX1_format_53 (by decide) (fun c_53 => ?_) (fun c_53 => ?_)
    · have hf := ip c_53 hf
      refine lv_aload_n hx hb dX1_format_96 rfl (lv_at hl 0 rfl) ?_
      refine lv_aload_n hx hb dX1_format_97 rfl (lv_at hl 1 rfl) ?_
      obtain ⟨u_10, eu_10, hf⟩ := ob hf
      obtain ⟨⟨v_11, σ_12⟩, ev_11, hf⟩ := ob hf
      refine cg_V (vw := (RJ9, TJ9, 4)) (ci := 25) (r := (some (.ref v_11))) (σ' := σ_12) (rs := [.ref v_11, .ref x0]) (rest := [.ref x0]) (As := []) X I eu_10 rfl (mJ9_toString hX ev_11) lvX1_520 hdX1_520 ⟨Nat.le_trans (Nat.le_of_ble_eq_true rfl) hR.1, Nat.le_trans (Nat.le_of_ble_eq_true rfl) hR.2⟩ rfl hl.1 rfl (Nat.le_of_ble_eq_true rfl) rfl dX1_format_98 (fun H locs cells slots I => ?_)
      obtain ⟨σ_13, eσ_13, hf⟩ := ob hf
      refine g_put X I pfX1_99 rfl rfl eσ_13 dX1_format_101 (fun H locs I => ?_)
      refine lv_aload_n hx hb dX1_format_104 rfl (lv_at hl 0 rfl) ?_
      obtain ⟨v_14, ev_14, hf⟩ := ob hf
      refine g_get X I gfX1_99 (gR_in ev_14) dX1_format_105 ?_
      obtain ⟨a_15, ea_15, hga_15⟩ := ob hf
      have hla_15 := hl
      have Ia_15 := I
      subst ea_15
      have hf := hga_15
      have hl := hla_15
      have I := Ia_15
      obtain ⟨u_16, eu_16, hf⟩ := ob hf
      obtain ⟨v_17, ev_17, hf⟩ := ob hf
      refine cg_V (vw := (RJ10, TJ10, 4)) (ci := 26) (r := (some (.int v_17))) (σ' := σ_13) (rs := [.int v_17]) (rest := []) (As := []) X I eu_16 rfl (mJ10_length hX ev_17) lvX1_524 hdX1_524 ⟨Nat.le_trans (Nat.le_of_ble_eq_true rfl) hR.1, Nat.le_trans (Nat.le_of_ble_eq_true rfl) hR.2⟩ rfl hl.1 rfl (Nat.le_of_ble_eq_true rfl) rfl dX1_format_108 (fun H locs cells slots I => ?_)
      cases os hf
      exact x_ret (r_iret X I dX1_format_111)
    · have hf := im c_53 hf
      refine lv_aload hx hb dX1_format_56 (lv_at hl 2 rfl) ?_
      obtain ⟨u_19, eu_19, hf⟩ := ob hf
      obtain ⟨⟨v_20, σ_21⟩, ev_20, hf⟩ := ob hf
      have hgv_20 := hf
      rcases v_20 with v_22 | q_23
      · have hf := se_l hgv_20
        refine cx_ret5 (r := (some (.ref v_22))) (rs := [.ref v_22]) I (xr_F (vw := (RX20, TX20, 2)) (ci := 18) (σ' := σ_21) (rest := []) (As := []) hX X I eu_19 rfl (mX20_next hX hS ev_20) lvX1_200_X20 hdX1_200_X20 ⟨Nat.le_trans (Nat.le_of_ble_eq_true rfl) hR.1, Nat.le_trans (Nat.le_of_ble_eq_true rfl) hR.2⟩ rfl hl.1 rfl (Nat.le_of_ble_eq_true rfl) dX1_format_58) rfl (fun H locs cells slots I => ?_)
        obtain ⟨u_24, eu_24, hf⟩ := ob hf
        refine g_cast (vw := (RJ10, TJ10, 4)) X I rfl q2459 eu_24 dX1_format_63 ?_
        refine lv_astore (lv' := [(5, .ref v_22), (0, .ref x0), (3, .ref x3), (4, .ref x4)]) hx hb dX1_format_66 hl (by decide) rfl (fun ls hl => ?_)
        refine lv_aload_n hx hb dX1_format_68 rfl (lv_at hl 2 rfl) ?_
        refine lv_aload_n hx hb dX1_format_69 rfl (lv_at hl 2 rfl) ?_
        obtain ⟨u_25, eu_25, hf⟩ := ob hf
        obtain ⟨v_26, ev_26, hf⟩ := ob hf
        refine cg_V (vw := (RJ9, TJ9, 4)) (ci := 25) (r := (some (.int v_26))) (σ' := σ_21) (rs := [.int v_26, .ref x3]) (rest := [.ref x3]) (As := []) X I eu_25 rfl (mJ9_length hX ev_26) lvX1_512 hdX1_512 ⟨Nat.le_trans (Nat.le_of_ble_eq_true rfl) hR.1, Nat.le_trans (Nat.le_of_ble_eq_true rfl) hR.2⟩ rfl hl.1 rfl (Nat.le_of_ble_eq_true rfl) rfl dX1_format_70 (fun H locs cells slots I => ?_)
        refine lv_if_le (tgt := 82) hx hb dX1_format_73 (by decide) (fun c_73 => ?_) (fun c_73 => ?_)
        · have hf := ip c_73 hf
          refine g_ldcS hX X (tx := "") (k := 116) (List.mem_of_getElem? (i := 16) rfl) dX1_format_82 ?_
          exact wX1_format_84 hX hR X XH hS N (fX1_format_46 N E.2.2.2.1 n) ih x0 x3 x4 v_22 x3 (E.2.2.2.1 116) σ_21 _ _ _ _ _ I (lv_sub hl [1, 2, 3, 0] rfl) hf
        · have hf := im c_73 hf
          refine g_ldcSW hX X (tx := " ") (k := 119) (List.mem_of_getElem? (i := 19) rfl) dX1_format_76 ?_
          refine lv_goto (tgt := 84) hx hb dX1_format_79 (by decide) ?_
          exact wX1_format_84 hX hR X XH hS N (fX1_format_46 N E.2.2.2.1 n) ih x0 x3 x4 v_22 x3 (E.2.2.2.1 119) σ_21 _ _ _ _ _ I (lv_sub hl [1, 2, 3, 0] rfl) hf
      · have hf := se_r hgv_20
        exact nomatch hf
theorem wX1_format_30 {E : EV} {l : Launch} {p : Program} {e : Env} {s : State} {m : MethodId} {args : Array Value} {below : List Frame} {meth : Method} {c : Code} {R : Room} {res : ((Int32 ⊕ Nat) × St)} (hX : XK E) (hR : 13 ≤ R.frames ∧ 289 ≤ R.locals) (X : MX E p s m args meth c cX1_format 6 (some .int) RX1 "format") (XH : MH c []) (hS : l.stackTraces = false) (N : Nat) : ∀ (x0 : Nat) (x2 : Nat) (y0 : Nat) (y1 : Nat) (y2 : Nat) (σ : St) (H : Heap) (locs : List Loc) (cells slots : Nat) (ls : Array Slot), WI E R s σ H locs cells slots → lv_has ls 6 [(0, .ref x0), (2, .ref x2)] → fX1_format_30 N E.2.2.2.1 x0 x2 y0 y1 y2 σ = some res → W p l e R s m args below meth c H locs cells slots (vx_MQ below (QS E R.cells R.slots (sv (fun v => (some (.int v))) res.1) res.2) (XS E R.cells R.slots (sx res.1) res.2) args s R.cells R.slots (fr E)) (F0 m 30 ls [.ref y2, .ref y1, .ref y0]) := by
  intro x0 x2 y0 y1 y2 σ H locs cells slots ls I hl hf
  obtain ⟨⟨hx, hb, hml, hown, hts⟩, -⟩ := id X
  unfold fX1_format_30 at hf
  obtain ⟨σ_29, ev_28, hf⟩ := ob hf
  refine cm_I (σ' := σ_29) (rs := [.ref y0]) (rest := [.ref y0]) (As := [.ref y2]) X I (mJ9_init_2 hX ev_28) lvX1_502 hdX1_502 ⟨Nat.le_trans (Nat.le_of_ble_eq_true rfl) hR.1, Nat.le_trans (Nat.le_of_ble_eq_true rfl) hR.2⟩ rfl hl.1 rfl (Nat.le_of_ble_eq_true rfl) rfl dX1_format_30 (fun H locs cells slots I => ?_)
  refine lv_astore_n (lv' := [(3, .ref y0), (0, .ref x0), (2, .ref x2)]) hx hb dX1_format_33 rfl hl (by decide) rfl (fun ls hl => ?_)
  refine lv_aload_n hx hb dX1_format_34 rfl (lv_at hl 1 rfl) ?_
  refine lv_aload_n hx hb dX1_format_35 rfl (lv_at hl 2 rfl) ?_
  obtain ⟨u_30, eu_30, hf⟩ := ob hf
  obtain ⟨⟨v_31, σ_32⟩, ev_31, hf⟩ := ob hf
  refine cg_V (vw := (RX1, TX1, 7)) (ci := 0) (r := (some (.ref v_31))) (σ' := σ_32) (rs := [.ref v_31]) (rest := []) (As := [.ref x2]) X I eu_30 rfl (mX1_wordsOf hX ev_31) lvX1_505 hdX1_505 ⟨Nat.le_trans (Nat.le_of_ble_eq_true rfl) hR.1, Nat.le_trans (Nat.le_of_ble_eq_true rfl) hR.2⟩ rfl hl.1 rfl (Nat.le_of_ble_eq_true rfl) rfl dX1_format_36 (fun H locs cells slots I => ?_)
  obtain ⟨u_33, eu_33, hf⟩ := ob hf
  obtain ⟨⟨v_34, σ_35⟩, ev_34, hf⟩ := ob hf
  refine cg_F (vw := (RX19, TX19, 2)) (ci := 17) (r := (some (.ref v_34))) (σ' := σ_35) (rs := [.ref v_34]) (rest := []) (As := []) hX X I eu_33 rfl (mX19_iterator hX ev_34) lvX1_509_X19 hdX1_509_X19 ⟨Nat.le_trans (Nat.le_of_ble_eq_true rfl) hR.1, Nat.le_trans (Nat.le_of_ble_eq_true rfl) hR.2⟩ rfl hl.1 rfl (Nat.le_of_ble_eq_true rfl) rfl dX1_format_39 (fun H locs cells slots I => ?_)
  refine lv_astore (lv' := [(4, .ref v_34), (3, .ref y0), (0, .ref x0), (2, .ref x2)]) hx hb dX1_format_44 hl (by decide) rfl (fun ls hl => ?_)
  exact wX1_format_46 hX hR X XH hS N N x0 y0 v_34 σ_35 _ _ _ _ _ I (lv_sub hl [2, 1, 0] rfl) hf
theorem wX1_format_0 {E : EV} {l : Launch} {p : Program} {e : Env} {s : State} {m : MethodId} {args : Array Value} {below : List Frame} {meth : Method} {c : Code} {R : Room} {res : ((Int32 ⊕ Nat) × St)} (hX : XK E) (hR : 13 ≤ R.frames ∧ 289 ≤ R.locals) (X : MX E p s m args meth c cX1_format 6 (some .int) RX1 "format") (XH : MH c []) (hS : l.stackTraces = false) (N : Nat) : ∀ (x0 : Nat) (x1 : Int32) (σ : St) (H : Heap) (locs : List Loc) (cells slots : Nat) (ls : Array Slot), WI E R s σ H locs cells slots → lv_has ls 6 [(0, .ref x0), (1, .int x1)] → fX1_format N E.2.2.2.1 σ x0 x1 = some res → W p l e R s m args below meth c H locs cells slots (vx_MQ below (QS E R.cells R.slots (sv (fun v => (some (.int v))) res.1) res.2) (XS E R.cells R.slots (sx res.1) res.2) args s R.cells R.slots (fr E)) (F0 m 0 ls []) := by
  intro x0 x1 σ H locs cells slots ls I hl hf
  obtain ⟨⟨hx, hb, hml, hown, hts⟩, -⟩ := id X
  unfold fX1_format at hf
  refine lv_aload_n hx hb dX1_format_0 rfl (lv_at hl 0 rfl) ?_
  refine lv_iload_n hx hb dX1_format_1 rfl (lv_at hl 1 rfl) ?_
  obtain ⟨u_36, eu_36, hf⟩ := ob hf
  obtain ⟨⟨v_37, σ_38⟩, ev_37, hf⟩ := ob hf
  have hgv_37 := hf
  rcases v_37 with v_39 | q_40
  · have hf := se_l hgv_37
    refine cx_ret (r := (some (.ref v_39))) (rs := [.ref v_39]) I (xr_V (vw := (RX1, TX1, 7)) (ci := 0) (σ' := σ_38) (rest := []) (As := [.int x1]) X I eu_36 rfl (mX1_taxiAt hX hS ev_37) lvX1_238 hdX1_238 ⟨Nat.le_trans (Nat.le_of_ble_eq_true rfl) hR.1, Nat.le_trans (Nat.le_of_ble_eq_true rfl) hR.2⟩ rfl hl.1 rfl (Nat.le_of_ble_eq_true rfl) dX1_format_2) rfl (fun H locs cells slots I => ?_)
    refine lv_astore_n (lv' := [(2, .ref v_39), (0, .ref x0), (1, .int x1)]) hx hb dX1_format_5 rfl hl (by decide) rfl (fun ls hl => ?_)
    obtain ⟨⟨q_41a, q_41s⟩, eq_41, hf⟩ := ob hf
    refine g_new X I noX1_495 eq_41 dX1_format_6 (fun H locs cells slots I => ?_)
    refine lv_dup hx hb dX1_format_9 rfl ?_
    refine lv_aload_n hx hb dX1_format_10 rfl (lv_at hl 0 rfl) ?_
    obtain ⟨v_42, ev_42, hf⟩ := ob hf
    refine g_getN hX X I gfX1_203 (gR_in ev_42) dX1_format_11 ?_
    obtain ⟨a_43, ea_43, hga_43⟩ := ob hf
    have hla_43 := hl
    have Ia_43 := I
    subst ea_43
    have hf := hga_43
    have hl := hla_43
    have I := Ia_43
    obtain ⟨u_44, eu_44, hf⟩ := ob hf
    obtain ⟨v_45, ev_45, hf⟩ := ob hf
    refine cg_F (vw := (RJ2, TJ2, 3)) (ci := 21) (r := (some (.int v_45))) (σ' := q_41s) (rs := [.int v_45, .ref q_41a, .ref q_41a]) (rest := [.ref q_41a, .ref q_41a]) (As := []) hX X I eu_44 rfl (mJ2_isEmpty hX ev_45) lvX1_497_J2 hdX1_497_J2 ⟨Nat.le_trans (Nat.le_of_ble_eq_true rfl) hR.1, Nat.le_trans (Nat.le_of_ble_eq_true rfl) hR.2⟩ rfl hl.1 rfl (Nat.le_of_ble_eq_true rfl) rfl dX1_format_14 (fun H locs cells slots I => ?_)
    refine lv_if_eq (tgt := 28) hx hb dX1_format_19 (by decide) (fun c_19 => ?_) (fun c_19 => ?_)
    · have hf := ip c_19 hf
      refine g_ldcS hX X (tx := "") (k := 116) (List.mem_of_getElem? (i := 16) rfl) dX1_format_28 ?_
      exact wX1_format_30 hX hR X XH hS N x0 v_39 q_41a q_41a (E.2.2.2.1 116) q_41s _ _ _ _ _ I (lv_sub hl [1, 0] rfl) hf
    · have hf := im c_19 hf
      refine g_ldcSW hX X (tx := ".") (k := 118) (List.mem_of_getElem? (i := 18) rfl) dX1_format_22 ?_
      refine lv_goto (tgt := 30) hx hb dX1_format_25 (by decide) ?_
      exact wX1_format_30 hX hR X XH hS N x0 v_39 q_41a q_41a (E.2.2.2.1 118) q_41s _ _ _ _ _ I (lv_sub hl [1, 0] rfl) hf
  · have hf := se_r hgv_37
    obtain ⟨uq_40, eq_40, hf⟩ := ob hf
    cases os hf
    refine cx_thr I (xr_V (vw := (RX1, TX1, 7)) (ci := 0) (σ' := σ_38) (rest := []) (As := [.int x1]) X I eu_36 rfl (mX1_taxiAt hX hS ev_37) lvX1_238 hdX1_238 ⟨Nat.le_trans (Nat.le_of_ble_eq_true rfl) hR.1, Nat.le_trans (Nat.le_of_ble_eq_true rfl) hR.2⟩ rfl hl.1 rfl (Nat.le_of_ble_eq_true rfl) dX1_format_2) (fun H locs cells slots I => ?_)
    exact x_out X XH rfl I eq_40
theorem mX1_format {E : EV} {l : Launch} {N : Nat} {σ : St} {x0 : Nat} {x1 : Int32} {res : ((Int32 ⊕ Nat) × St)} (hX : XK E) (hS : l.stackTraces = false) (hf : fX1_format N E.2.2.2.1 σ x0 x1 = some res) : CX E l yX1_format (ws_ yX1_format cX1_format 6 (some .int)) 13 289 [.ref x0, .int x1] σ (sv (fun v => (some (.int v))) res.1) (sx res.1) res.2 := by
  refine CX.of hX.1 (by decide) rfl rfl (Nat.le_of_ble_eq_true rfl) ?_
  intro p e s m below meth c X XH I ls hl
  exact wX1_format_0 hX ⟨Nat.le_refl _, Nat.le_refl _⟩ X XH hS N _ _ _ _ _ _ _ _ I hl hf
/-! SharedTaxisLaw.format(LSharedTaxis;I[J)I imp=True fuel=True kap=True rt=I thr=False -/
theorem lvX0_93 : GoodIn lw_all (wsV RX0 93 RX1 yX1_format (ws_ yX1_format cX1_format 6 (some .int))) := lw_V q2370 q2371 q2372 q113 q2373
theorem hdX0_93 : yX1_format.cls = RX1 ∧ yX1_format.cls ≠ "java/lang/invoke/MethodHandle" ∧ yX1_format.cls ≠ "java/lang/invoke/VarHandle" ∧ (parseMethodDescriptor yX1_format.desc).map (fun d => d.parameters.length) = some 1 := by decide +kernel
def fX0_format (N : Nat) (κ : Nat → Nat) (σ : St) (x0 : Nat) (x1 : Int32) (x2 : Nat) : Option (Int32 × St) := (isC σ x0 0).bind fun u_1 : Unit => (fX1_format N κ σ x0 x1).bind fun (v_2, σ_3) => se v_2 (fun v_4 => (sJ σ_3 x2 (0 : Int32) (v_4.toInt64)).bind fun σ_6 : St => some ((0 : Int32), σ_6)) (fun q_5 => (clsX σ_3 q_5).bind fun c_7 : Nat => if c_7 = 34 then some ((1 : Int32), σ_3) else none)
theorem wX0_format_0 {E : EV} {l : Launch} {p : Program} {e : Env} {s : State} {m : MethodId} {args : Array Value} {below : List Frame} {meth : Method} {c : Code} {R : Room} {res : (Int32 × St)} (hX : XK E) (hR : 14 ≤ R.frames ∧ 314 ≤ R.locals) (X : MX E p s m args meth c cX0_format 4 (some .int) RX0 "format") (XH : MH c [(0, 9, 12, 18)]) (hS : l.stackTraces = false) (N : Nat) : ∀ (x0 : Nat) (x1 : Int32) (x2 : Nat) (σ : St) (H : Heap) (locs : List Loc) (cells slots : Nat) (ls : Array Slot), WI E R s σ H locs cells slots → lv_has ls 4 [(0, .ref x0), (1, .int x1), (2, .ref x2)] → fX0_format N E.2.2.2.1 σ x0 x1 x2 = some res → W p l e R s m args below meth c H locs cells slots (vx_MQ below (QS E R.cells R.slots (some (some (.int res.1))) res.2) (XS E R.cells R.slots none res.2) args s R.cells R.slots (fr E)) (F0 m 0 ls []) := by
  intro x0 x1 x2 σ H locs cells slots ls I hl hf
  obtain ⟨⟨hx, hb, hml, hown, hts⟩, -⟩ := id X
  unfold fX0_format at hf
  refine lv_aload_n hx hb dX0_format_0 rfl (lv_at hl 2 rfl) ?_
  refine lv_iconst (v := 0) hx hb dX0_format_1 (by decide) ?_
  refine lv_aload_n hx hb dX0_format_2 rfl (lv_at hl 0 rfl) ?_
  refine lv_iload_n hx hb dX0_format_3 rfl (lv_at hl 1 rfl) ?_
  obtain ⟨u_1, eu_1, hf⟩ := ob hf
  obtain ⟨⟨v_2, σ_3⟩, ev_2, hf⟩ := ob hf
  have hgv_2 := hf
  rcases v_2 with v_4 | q_5
  · have hf := se_l hgv_2
    refine cx_ret (r := (some (.int v_4))) (rs := [.int v_4, .int (0 : Int32), .ref x2]) I (xr_V (vw := (RX1, TX1, 7)) (ci := 0) (σ' := σ_3) (rest := [.int (0 : Int32), .ref x2]) (As := [.int x1]) X I eu_1 rfl (mX1_format hX hS ev_2) lvX0_93 hdX0_93 ⟨Nat.le_trans (Nat.le_of_ble_eq_true rfl) hR.1, Nat.le_trans (Nat.le_of_ble_eq_true rfl) hR.2⟩ rfl hl.1 rfl (Nat.le_of_ble_eq_true rfl) dX0_format_4) rfl (fun H locs cells slots I => ?_)
    refine lv_i2l hx hb dX0_format_7 rfl ?_
    obtain ⟨σ_6, eσ_6, hf⟩ := ob hf
    refine g_last X I eσ_6 dX0_format_8 (fun H locs I => ?_)
    refine lv_goto (tgt := 15) hx hb dX0_format_9 (by decide) ?_
    refine lv_iconst (v := 0) hx hb dX0_format_15 (by decide) ?_
    cases os hf
    exact x_ret (r_iret X I dX0_format_16)
  · have hf := se_r hgv_2
    obtain ⟨c_7, ec_7, hf⟩ := ob hf
    refine cx_thr I (xr_V (vw := (RX1, TX1, 7)) (ci := 0) (σ' := σ_3) (rest := [.int (0 : Int32), .ref x2]) (As := [.int x1]) X I eu_1 rfl (mX1_format hX hS ev_2) lvX0_93 hdX0_93 ⟨Nat.le_trans (Nat.le_of_ble_eq_true rfl) hR.1, Nat.le_trans (Nat.le_of_ble_eq_true rfl) hR.2⟩ rfl hl.1 rfl (Nat.le_of_ble_eq_true rfl) dX0_format_4) (fun H locs cells slots I => ?_)
    by_cases cc_7_E22 : c_7 = 34
    · have hf := ip cc_7_E22 hf
      refine x_catch (vw := (RJ22, TJ22, 0)) hX X XH I (cc_7_E22 ▸ ec_7) rfl ((tableOf [(0, 9, 12, 18)]).take 0) _ _ rfl (fun z hz => nomatch hz) rfl (by decide) q1558 q417 ?_
      refine lv_astore_n (lv' := [(3, .ref q_5), (0, .ref x0), (1, .int x1), (2, .ref x2)]) hx hb dX0_format_12 rfl hl (by decide) rfl (fun ls hl => ?_)
      refine lv_iconst (v := 1) hx hb dX0_format_13 (by decide) ?_
      cases os hf
      exact x_ret (r_iret X I dX0_format_14)
    · have hf := im cc_7_E22 hf
      exact nomatch hf
theorem mX0_format {E : EV} {l : Launch} {N : Nat} {σ : St} {x0 : Nat} {x1 : Int32} {x2 : Nat} {res : (Int32 × St)} (hX : XK E) (hS : l.stackTraces = false) (hf : fX0_format N E.2.2.2.1 σ x0 x1 x2 = some res) : CX E l yX0_format (wsW_ yX0_format cX0_format 4 (some .int) [(0, 9, 12, 18)]) 14 314 [.ref x0, .int x1, .ref x2] σ (some (some (.int res.1))) none res.2 := by
  refine CX.ofH hX.1 (by decide) rfl rfl (Nat.le_of_ble_eq_true rfl) ?_
  intro p e s m below meth c X XH I ls hl
  exact wX0_format_0 hX ⟨Nat.le_refl _, Nat.le_refl _⟩ X XH hS N _ _ _ _ _ _ _ _ _ I hl hf
/-! java/util/ArrayDeque.<init>()V imp=True fuel=False kap=False rt=None thr=False -/
theorem lvJ3_42 : GoodIn lw_all (ws_ yJ0_init cJ0_init 1 none) ∧ Cond.initialized yJ0_init.cls ∈ lw_all ∧ Cond.methodLink RJ3 42 yJ0_init ∈ lw_all ∧ Cond.instanceMethod yJ0_init ∈ lw_all ∧ yJ0_init.name = "<init>" := ⟨lw_meth q213, q116, q283, q212, rfl⟩
theorem hdJ3_42 : yJ0_init.cls ≠ "java/lang/invoke/MethodHandle" ∧ yJ0_init.cls ≠ "java/lang/invoke/VarHandle" ∧ (parseMethodDescriptor yJ0_init.desc).map (fun d => d.parameters.length) = some 0 := by decide +kernel
def fJ3_init (σ : St) (x0 : Nat) : Option St := (fJ0_init σ x0).bind fun v_1 : Unit => (an (17 : Int32)).bind fun k_3 : Nat => (nH σ k_3 (.inl (3, k_3, .inr (.inr (.inr (.inr fun _ => none)))))).bind fun (q_4a, q_4s) => (pV q_4s x0 [(22, 0)] (.ref q_4a)).bind fun σ_5 : St => some σ_5
theorem wJ3_init_0 {E : EV} {l : Launch} {p : Program} {e : Env} {s : State} {m : MethodId} {args : Array Value} {below : List Frame} {meth : Method} {c : Code} {R : Room} {res : St} (hX : XK E) (hR : 2 ≤ R.frames ∧ 40 ≤ R.locals) (X : MX E p s m args meth c cJ3_init 1 none RJ3 "<init>") : ∀ (x0 : Nat) (σ : St) (H : Heap) (locs : List Loc) (cells slots : Nat) (ls : Array Slot), WI E R s σ H locs cells slots → lv_has ls 1 [(0, .ref x0)] → fJ3_init σ x0 = some res → W p l e R s m args below meth c H locs cells slots (MQ below (Qd E R.cells R.slots none res) args s R.cells R.slots (fr E)) (F0 m 0 ls []) := by
  intro x0 σ H locs cells slots ls I hl hf
  obtain ⟨⟨hx, hb, hml, hown, hts⟩, -⟩ := id X
  unfold fJ3_init at hf
  refine lv_aload_n hx hb dJ3_init_0 rfl (lv_at hl 0 rfl) ?_
  obtain ⟨v_1, ev_1, hf⟩ := ob hf
  refine cm_I (σ' := σ) (rs := []) (rest := []) (As := []) X I (mJ0_init hX ev_1) lvJ3_42 hdJ3_42 ⟨Nat.le_trans (Nat.le_of_ble_eq_true rfl) hR.1, Nat.le_trans (Nat.le_of_ble_eq_true rfl) hR.2⟩ rfl hl.1 rfl (Nat.le_of_ble_eq_true rfl) rfl dJ3_init_1 (fun H locs cells slots I => ?_)
  refine lv_aload_n hx hb dJ3_init_4 rfl (lv_at hl 0 rfl) ?_
  refine lv_bipush (v := 17) hx hb dJ3_init_5 (by decide) ?_
  obtain ⟨k_3, ek_3, hf⟩ := ob hf
  obtain ⟨⟨q_4a, q_4s⟩, eq_4, hf⟩ := ob hf
  refine g_anew (t := 3) hX X I (by decide) q284 ek_3 eq_4 dJ3_init_7 (fun H locs cells slots I => ?_)
  obtain ⟨σ_5, eσ_5, hf⟩ := ob hf
  refine g_put X I pfJ3_3 rfl rfl eσ_5 dJ3_init_10 (fun H locs I => ?_)
  cases os hf
  exact r_vret X I dJ3_init_13
theorem mJ3_init {E : EV} {l : Launch} {σ : St} {x0 : Nat} {res : St} (hX : XK E) (hf : fJ3_init σ x0 = some res) : CM E l yJ3_init (ws_ yJ3_init cJ3_init 1 none) 2 40 [.ref x0] σ none res := by
  refine CM.of hX.1 (by decide) rfl rfl (Nat.le_of_ble_eq_true rfl) ?_
  intro p e s m below meth c X I ls hl
  exact wJ3_init_0 hX ⟨Nat.le_refl _, Nat.le_refl _⟩ X _ _ _ _ _ _ _ I hl hf
/-! SharedTaxis.<init>()V imp=True fuel=True kap=True rt=None thr=False -/
theorem pfX1_69 : ∀ q ∈ ([(0, 0)] : List (Nat × Nat)), PI RX1 69 (.array .byte) q := List.forall_mem_cons.mpr ⟨⟨RX1, TX1, 7, tyX1, rfl, in_X1, by decide, q299, rfl, tyX1_ok, nmX1, rfl, rfl⟩, fun _ h => by cases h⟩
theorem noX1_77 : NO RX1 77 1 7 [.null, .null, .int 0, .int 0, .int 0, .null, .null] := ⟨RX2, TX2, tyX2, rfl, in_X2, tyX2_ok, by decide, q172, q173, q114⟩
theorem noX1_79 : NO RX1 79 2 3 [.int 0, .null, .int 0] := ⟨RX3, TX3, tyX3, rfl, in_X3, tyX3_ok, by decide, q174, q175, q115⟩
theorem lvX1_81 : GoodIn lw_all (ws_ yX3_init cX3_init 4 none) ∧ Cond.initialized yX3_init.cls ∈ lw_all ∧ Cond.methodLink RX1 81 yX3_init ∈ lw_all ∧ Cond.instanceMethod yX3_init ∈ lw_all ∧ yX3_init.name = "<init>" := ⟨lw_meth q178, q115, q176, q177, rfl⟩
theorem hdX1_81 : yX3_init.cls ≠ "java/lang/invoke/MethodHandle" ∧ yX3_init.cls ≠ "java/lang/invoke/VarHandle" ∧ (parseMethodDescriptor yX3_init.desc).map (fun d => d.parameters.length) = some 1 := by decide +kernel
theorem lvX1_84 : GoodIn lw_all (ws_ yX2_init cX2_init 2 none) ∧ Cond.initialized yX2_init.cls ∈ lw_all ∧ Cond.methodLink RX1 84 yX2_init ∈ lw_all ∧ Cond.instanceMethod yX2_init ∈ lw_all ∧ yX2_init.name = "<init>" := ⟨lw_meth q201, q114, q199, q200, rfl⟩
theorem hdX1_84 : yX2_init.cls ≠ "java/lang/invoke/MethodHandle" ∧ yX2_init.cls ≠ "java/lang/invoke/VarHandle" ∧ (parseMethodDescriptor yX2_init.desc).map (fun d => d.parameters.length) = some 1 := by decide +kernel
theorem noX1_90 : NO RX1 90 22 3 [.null, .int 0, .int 0] := ⟨RJ3, TJ3, tyJ3, rfl, in_J3, tyJ3_ok, by decide, q278, q279, q119⟩
theorem lvX1_92 : GoodIn lw_all (ws_ yJ3_init cJ3_init 1 none) ∧ Cond.initialized yJ3_init.cls ∈ lw_all ∧ Cond.methodLink RX1 92 yJ3_init ∈ lw_all ∧ Cond.instanceMethod yJ3_init ∈ lw_all ∧ yJ3_init.name = "<init>" := ⟨lw_meth q282, q119, q280, q281, rfl⟩
theorem hdX1_92 : yJ3_init.cls ≠ "java/lang/invoke/MethodHandle" ∧ yJ3_init.cls ≠ "java/lang/invoke/VarHandle" ∧ (parseMethodDescriptor yJ3_init.desc).map (fun d => d.parameters.length) = some 0 := by decide +kernel
theorem pfX1_93 : ∀ q ∈ ([(0, 5)] : List (Nat × Nat)), PI RX1 93 (.object "java/util/ArrayDeque") q := List.forall_mem_cons.mpr ⟨⟨RX1, TX1, 7, tyX1, rfl, in_X1, by decide, q305, rfl, tyX1_ok, nmX1, rfl, rfl⟩, fun _ h => by cases h⟩
def fX1_init (N : Nat) (κ : Nat → Nat) (σ : St) (x0 : Nat) : Option St := (an (800 : Int32)).bind fun k_1 : Nat => (nH σ k_1 (.inl (1, z0 1 k_1))).bind fun (q_2a, q_2s) => (pV q_2s x0 [(0, 0)] (.ref q_2a)).bind fun σ_3 : St => (pV σ_3 x0 [(0, 2)] (.int (-1 : Int32))).bind fun σ_4 : St => (nH σ_4 7 (.inr (1, [.null, .null, .int 0, .int 0, .int 0, .null, .null]))).bind fun (q_5a, q_5s) => (nH q_5s 3 (.inr (2, [.int 0, .null, .int 0]))).bind fun (q_6a, q_6s) => (fX3_init N q_6s q_6a (2 : Int32)).bind fun σ_8 : St => (fX2_init κ σ_8 q_5a q_6a).bind fun σ_10 : St => (pV σ_10 x0 [(0, 3)] (.ref q_5a)).bind fun σ_11 : St => (nH σ_11 3 (.inr (22, [.null, .int 0, .int 0]))).bind fun (q_12a, q_12s) => (fJ3_init q_12s q_12a).bind fun σ_14 : St => (pV σ_14 x0 [(0, 5)] (.ref q_12a)).bind fun σ_15 : St => (pV σ_15 x0 [(0, 6)] (.ref (κ 116))).bind fun σ_16 : St => some σ_16
theorem wX1_init_0 {E : EV} {l : Launch} {p : Program} {e : Env} {s : State} {m : MethodId} {args : Array Value} {below : List Frame} {meth : Method} {c : Code} {R : Room} {res : St} (hX : XK E) (hR : 5 ≤ R.frames ∧ 101 ≤ R.locals) (X : MX E p s m args meth c cX1_init 1 none RX1 "<init>") (N : Nat) : ∀ (x0 : Nat) (σ : St) (H : Heap) (locs : List Loc) (cells slots : Nat) (ls : Array Slot), WI E R s σ H locs cells slots → lv_has ls 1 [(0, .ref x0)] → fX1_init N E.2.2.2.1 σ x0 = some res → W p l e R s m args below meth c H locs cells slots (MQ below (Qd E R.cells R.slots none res) args s R.cells R.slots (fr E)) (F0 m 0 ls []) := by
  intro x0 σ H locs cells slots ls I hl hf
  obtain ⟨⟨hx, hb, hml, hown, hts⟩, -⟩ := id X
  unfold fX1_init at hf
  refine lv_aload_n hx hb dX1_init_0 rfl (lv_at hl 0 rfl) ?_
  refine g_objInit X ⟨Nat.le_trans (Nat.le_of_ble_eq_true rfl) hR.1, Nat.le_trans (Nat.le_of_ble_eq_true rfl) hR.2⟩ q169 hl.1 (Nat.le_of_ble_eq_true rfl) dX1_init_1 ?_
  refine lv_aload_n hx hb dX1_init_4 rfl (lv_at hl 0 rfl) ?_
  refine lv_sipush (v := 800) hx hb dX1_init_5 (by decide) ?_
  obtain ⟨k_1, ek_1, hf⟩ := ob hf
  obtain ⟨⟨q_2a, q_2s⟩, eq_2, hf⟩ := ob hf
  refine g_newa (atype := .byte) (t := 1) X I (by decide) rfl q197 ek_1 eq_2 dX1_init_8 (fun H locs cells slots I => ?_)
  obtain ⟨σ_3, eσ_3, hf⟩ := ob hf
  refine g_putI X I pfX1_69 rfl rfl eσ_3 dX1_init_10 (fun H locs I => ?_)
  refine lv_aload_n hx hb dX1_init_13 rfl (lv_at hl 0 rfl) ?_
  refine lv_iconst (v := (-1)) hx hb dX1_init_14 (by decide) ?_
  obtain ⟨σ_4, eσ_4, hf⟩ := ob hf
  refine g_put X I pfX1_73 rfl rfl eσ_4 dX1_init_15 (fun H locs I => ?_)
  refine lv_aload_n hx hb dX1_init_18 rfl (lv_at hl 0 rfl) ?_
  obtain ⟨⟨q_5a, q_5s⟩, eq_5, hf⟩ := ob hf
  refine g_new X I noX1_77 eq_5 dX1_init_19 (fun H locs cells slots I => ?_)
  refine lv_dup hx hb dX1_init_22 rfl ?_
  obtain ⟨⟨q_6a, q_6s⟩, eq_6, hf⟩ := ob hf
  refine g_new X I noX1_79 eq_6 dX1_init_23 (fun H locs cells slots I => ?_)
  refine lv_dup hx hb dX1_init_26 rfl ?_
  refine lv_iconst (v := 2) hx hb dX1_init_27 (by decide) ?_
  obtain ⟨σ_8, ev_7, hf⟩ := ob hf
  refine cm_I (σ' := σ_8) (rs := [.ref q_6a, .ref q_5a, .ref q_5a, .ref x0]) (rest := [.ref q_6a, .ref q_5a, .ref q_5a, .ref x0]) (As := [.int (2 : Int32)]) X I (mX3_init hX ev_7) lvX1_81 hdX1_81 ⟨Nat.le_trans (Nat.le_of_ble_eq_true rfl) hR.1, Nat.le_trans (Nat.le_of_ble_eq_true rfl) hR.2⟩ rfl hl.1 rfl (Nat.le_of_ble_eq_true rfl) rfl dX1_init_28 (fun H locs cells slots I => ?_)
  obtain ⟨σ_10, ev_9, hf⟩ := ob hf
  refine cm_I (σ' := σ_10) (rs := [.ref q_5a, .ref x0]) (rest := [.ref q_5a, .ref x0]) (As := [.ref q_6a]) X I (mX2_init hX ev_9) lvX1_84 hdX1_84 ⟨Nat.le_trans (Nat.le_of_ble_eq_true rfl) hR.1, Nat.le_trans (Nat.le_of_ble_eq_true rfl) hR.2⟩ rfl hl.1 rfl (Nat.le_of_ble_eq_true rfl) rfl dX1_init_31 (fun H locs cells slots I => ?_)
  obtain ⟨σ_11, eσ_11, hf⟩ := ob hf
  refine g_put X I pfX1_87 rfl rfl eσ_11 dX1_init_34 (fun H locs I => ?_)
  refine lv_aload_n hx hb dX1_init_37 rfl (lv_at hl 0 rfl) ?_
  obtain ⟨⟨q_12a, q_12s⟩, eq_12, hf⟩ := ob hf
  refine g_new X I noX1_90 eq_12 dX1_init_38 (fun H locs cells slots I => ?_)
  refine lv_dup hx hb dX1_init_41 rfl ?_
  obtain ⟨σ_14, ev_13, hf⟩ := ob hf
  refine cm_I (σ' := σ_14) (rs := [.ref q_12a, .ref x0]) (rest := [.ref q_12a, .ref x0]) (As := []) X I (mJ3_init hX ev_13) lvX1_92 hdX1_92 ⟨Nat.le_trans (Nat.le_of_ble_eq_true rfl) hR.1, Nat.le_trans (Nat.le_of_ble_eq_true rfl) hR.2⟩ rfl hl.1 rfl (Nat.le_of_ble_eq_true rfl) rfl dX1_init_42 (fun H locs cells slots I => ?_)
  obtain ⟨σ_15, eσ_15, hf⟩ := ob hf
  refine g_putI X I pfX1_93 rfl rfl eσ_15 dX1_init_45 (fun H locs I => ?_)
  refine lv_aload_n hx hb dX1_init_48 rfl (lv_at hl 0 rfl) ?_
  refine g_ldcS hX X (tx := "") (k := 116) (List.mem_of_getElem? (i := 16) rfl) dX1_init_49 ?_
  obtain ⟨σ_16, eσ_16, hf⟩ := ob hf
  refine g_put X I pfX1_99 rfl rfl eσ_16 dX1_init_51 (fun H locs I => ?_)
  cases os hf
  exact r_vret X I dX1_init_54
theorem mX1_init {E : EV} {l : Launch} {N : Nat} {σ : St} {x0 : Nat} {res : St} (hX : XK E) (hf : fX1_init N E.2.2.2.1 σ x0 = some res) : CM E l yX1_init (ws_ yX1_init cX1_init 1 none) 5 101 [.ref x0] σ none res := by
  refine CM.of hX.1 (by decide) rfl rfl (Nat.le_of_ble_eq_true rfl) ?_
  intro p e s m below meth c X I ls hl
  exact wX1_init_0 hX ⟨Nat.le_refl _, Nat.le_refl _⟩ X N _ _ _ _ _ _ _ I hl hf
/-! SharedTaxis.append([I)V imp=True fuel=True kap=False rt=None thr=False -/
def fX1_append_24 (N : Nat) (r8 : Nat → Nat → Int32 → Int32 → St → Option St) : Nat → Nat → Nat → Int32 → Int32 → Int32 → Int32 → St → Option St
  | 0, _, _, _, _, _, _, _ => none
  | n + 1, x0, x2, x3, x4, x5, x6, σ => if x6 < 0 then lt (x4 + 1) fun x4_1 : Int32 => r8 x0 x2 x3 x4_1 σ else (gR σ x0 [(0, 0)]).bind fun v_2 : Option Nat => (gI σ x0 [(0, 1)]).bind fun v_3 : Int32 => (v_2).bind fun a_4 : Nat => (sI σ a_4 1 v_3 (((x5 >>> (x6 &&& 31)).toInt8.toInt32).toInt8.toInt32)).bind fun σ_5 : St => (gI σ_5 x0 [(0, 1)]).bind fun v_6 : Int32 => (pV σ_5 x0 [(0, 1)] (.int (v_6 + (1 : Int32)))).bind fun σ_7 : St => lt (x6 + (-8)) fun x6_8 : Int32 => fX1_append_24 N r8 n x0 x2 x3 x4 x5 x6_8 σ_7
def fX1_append_8 (N : Nat) : Nat → Nat → Nat → Int32 → Int32 → St → Option St
  | 0, _, _, _, _, _ => none
  | n + 1, x0, x2, x3, x4, σ => if x3 ≤ x4 then some σ else (aI σ x2 0 x4).bind fun v_9 : Int32 => fX1_append_24 N (fX1_append_8 N n) N x0 x2 x3 x4 v_9 (24 : Int32) σ
def fX1_append (N : Nat) (σ : St) (x0 : Nat) (x1 : Nat) : Option St := (aL σ x1).bind fun v_10 : Int32 => fX1_append_8 N N x0 x1 v_10 (0 : Int32) σ
theorem wX1_append_24 {E : EV} {l : Launch} {p : Program} {e : Env} {s : State} {m : MethodId} {args : Array Value} {below : List Frame} {meth : Method} {c : Code} {R : Room} {res : St} (hX : XK E) (hR : 0 ≤ R.frames ∧ 0 ≤ R.locals) (X : MX E p s m args meth c cX1_append 7 none RX1 "append") (N : Nat) (r8 : Nat → Nat → Int32 → Int32 → St → Option St) (hr8 : ∀ (x0 : Nat) (x2 : Nat) (x3 : Int32) (x4 : Int32) (σ : St) (H : Heap) (locs : List Loc) (cells slots : Nat) (ls : Array Slot), WI E R s σ H locs cells slots → lv_has ls 7 [(0, .ref x0), (2, .ref x2), (3, .int x3), (4, .int x4)] → r8 x0 x2 x3 x4 σ = some res → W p l e R s m args below meth c H locs cells slots (MQ below (Qd E R.cells R.slots none res) args s R.cells R.slots (fr E)) (F0 m 8 ls [])) : ∀ (n : Nat) (x0 : Nat) (x2 : Nat) (x3 : Int32) (x4 : Int32) (x5 : Int32) (x6 : Int32) (σ : St) (H : Heap) (locs : List Loc) (cells slots : Nat) (ls : Array Slot), WI E R s σ H locs cells slots → lv_has ls 7 [(0, .ref x0), (2, .ref x2), (3, .int x3), (4, .int x4), (5, .int x5), (6, .int x6)] → fX1_append_24 N r8 n x0 x2 x3 x4 x5 x6 σ = some res → W p l e R s m args below meth c H locs cells slots (MQ below (Qd E R.cells R.slots none res) args s R.cells R.slots (fr E)) (F0 m 24 ls []) := by
  intro n
  induction n with
  | zero => intro x0 x2 x3 x4 x5 x6 σ H locs cells slots ls I hl hf; exact nomatch (show none = some res from hf)
  | succ n ih =>
    intro x0 x2 x3 x4 x5 x6 σ H locs cells slots ls I hl hf
    obtain ⟨⟨hx, hb, hml, hown, hts⟩, -⟩ := id X
    rw [fX1_append_24.eq_2] at hf
    refine lv_iload hx hb dX1_append_24 (lv_at hl 5 rfl) ?_
    refine lv_if_lt (tgt := 60) hx hb dX1_append_26 (by decide) (fun c_26 => ?_) (fun c_26 => ?_)
    · have hf := ip c_26 hf
      obtain ⟨x4_1, ex4_1, hf⟩ := ol hf
      refine lv_iinc (v := x4_1) (lv' := [(4, .int x4_1), (0, .ref x0), (2, .ref x2), (3, .int x3), (5, .int x5), (6, .int x6)]) hx hb dX1_append_60 hl (k := 3) rfl ex4_1 (by decide) rfl (fun ls hl => ?_)
      refine lv_goto (tgt := 8) hx hb dX1_append_63 (by decide) ?_
      exact hr8 x0 x2 x3 x4_1 σ _ _ _ _ _ I (lv_sub hl [1, 2, 3, 0] rfl) hf
    · have hf := im c_26 hf
      refine lv_aload_n hx hb dX1_append_29 rfl (lv_at hl 0 rfl) ?_
      obtain ⟨v_2, ev_2, hf⟩ := ob hf
      refine g_get X I gfX1_69 (gR_in ev_2) dX1_append_30 ?_
      refine lv_aload_n hx hb dX1_append_33 rfl (lv_at hl 0 rfl) ?_
      obtain ⟨v_3, ev_3, hf⟩ := ob hf
      refine g_get X I gfX1_151 (gI_in ev_3) dX1_append_34 ?_
      refine lv_iload hx hb dX1_append_37 (lv_at hl 4 rfl) ?_
      refine lv_iload hx hb dX1_append_39 (lv_at hl 5 rfl) ?_
      refine lv_ishr hx hb dX1_append_41 ?_
      refine lv_i2b hx hb dX1_append_42 rfl ?_
      obtain ⟨a_4, ea_4, hga_4⟩ := ob hf
      have hla_4 := hl
      have Ia_4 := I
      subst ea_4
      have hf := hga_4
      have hl := hla_4
      have I := Ia_4
      obtain ⟨σ_5, eσ_5, hf⟩ := ob hf
      refine g_bast X I rfl eσ_5 dX1_append_43 (fun H locs I => ?_)
      refine lv_aload_n hx hb dX1_append_44 rfl (lv_at hl 0 rfl) ?_
      refine lv_dup hx hb dX1_append_45 rfl ?_
      obtain ⟨v_6, ev_6, hf⟩ := ob hf
      refine g_get X I gfX1_151 (gI_in ev_6) dX1_append_46 ?_
      refine lv_iconst (v := 1) hx hb dX1_append_49 (by decide) ?_
      refine lv_iadd hx hb dX1_append_50 ?_
      obtain ⟨σ_7, eσ_7, hf⟩ := ob hf
      refine g_put X I pfX1_151 rfl rfl eσ_7 dX1_append_51 (fun H locs I => ?_)
      obtain ⟨x6_8, ex6_8, hf⟩ := ol hf
      refine lv_iinc (v := x6_8) (lv' := [(6, .int x6_8), (0, .ref x0), (2, .ref x2), (3, .int x3), (4, .int x4), (5, .int x5)]) hx hb dX1_append_54 hl (k := 5) rfl ex6_8 (by decide) rfl (fun ls hl => ?_)
      refine lv_goto (tgt := 24) hx hb dX1_append_57 (by decide) ?_
      exact ih x0 x2 x3 x4 x5 x6_8 σ_7 _ _ _ _ _ I (lv_sub hl [1, 2, 3, 4, 5, 0] rfl) hf
theorem wX1_append_8 {E : EV} {l : Launch} {p : Program} {e : Env} {s : State} {m : MethodId} {args : Array Value} {below : List Frame} {meth : Method} {c : Code} {R : Room} {res : St} (hX : XK E) (hR : 0 ≤ R.frames ∧ 0 ≤ R.locals) (X : MX E p s m args meth c cX1_append 7 none RX1 "append") (N : Nat) : ∀ (n : Nat) (x0 : Nat) (x2 : Nat) (x3 : Int32) (x4 : Int32) (σ : St) (H : Heap) (locs : List Loc) (cells slots : Nat) (ls : Array Slot), WI E R s σ H locs cells slots → lv_has ls 7 [(0, .ref x0), (2, .ref x2), (3, .int x3), (4, .int x4)] → fX1_append_8 N n x0 x2 x3 x4 σ = some res → W p l e R s m args below meth c H locs cells slots (MQ below (Qd E R.cells R.slots none res) args s R.cells R.slots (fr E)) (F0 m 8 ls []) := by
  intro n
  induction n with
  | zero => intro x0 x2 x3 x4 σ H locs cells slots ls I hl hf; exact nomatch (show none = some res from hf)
  | succ n ih =>
    intro x0 x2 x3 x4 σ H locs cells slots ls I hl hf
    obtain ⟨⟨hx, hb, hml, hown, hts⟩, -⟩ := id X
    rw [fX1_append_8.eq_2] at hf
    refine lv_iload hx hb dX1_append_8 (lv_at hl 3 rfl) ?_
    refine lv_iload_n hx hb dX1_append_10 rfl (lv_at hl 2 rfl) ?_
    refine lv_icmp_ge (tgt := 66) hx hb dX1_append_11 (by decide) (fun c_11 => ?_) (fun c_11 => ?_)
    · have hf := ip c_11 hf
      cases os hf
      exact r_vret X I dX1_append_66
    · have hf := im c_11 hf
      refine lv_aload_n hx hb dX1_append_14 rfl (lv_at hl 1 rfl) ?_
      refine lv_iload hx hb dX1_append_15 (lv_at hl 3 rfl) ?_
      obtain ⟨v_9, ev_9, hf⟩ := ob hf
      refine g_iald X I ev_9 dX1_append_17 ?_
      refine lv_istore (lv' := [(5, .int v_9), (0, .ref x0), (2, .ref x2), (3, .int x3), (4, .int x4)]) hx hb dX1_append_18 hl (by decide) rfl (fun ls hl => ?_)
      refine lv_bipush (v := 24) hx hb dX1_append_20 (by decide) ?_
      refine lv_istore (lv' := [(6, .int (24 : Int32)), (5, .int v_9), (0, .ref x0), (2, .ref x2), (3, .int x3), (4, .int x4)]) hx hb dX1_append_22 hl (by decide) rfl (fun ls hl => ?_)
      exact wX1_append_24 hX hR X N (fX1_append_8 N n) ih N x0 x2 x3 x4 v_9 (24 : Int32) σ _ _ _ _ _ I (lv_sub hl [2, 3, 4, 5, 1, 0] rfl) hf
theorem wX1_append_0 {E : EV} {l : Launch} {p : Program} {e : Env} {s : State} {m : MethodId} {args : Array Value} {below : List Frame} {meth : Method} {c : Code} {R : Room} {res : St} (hX : XK E) (hR : 0 ≤ R.frames ∧ 0 ≤ R.locals) (X : MX E p s m args meth c cX1_append 7 none RX1 "append") (N : Nat) : ∀ (x0 : Nat) (x1 : Nat) (σ : St) (H : Heap) (locs : List Loc) (cells slots : Nat) (ls : Array Slot), WI E R s σ H locs cells slots → lv_has ls 7 [(0, .ref x0), (1, .ref x1)] → fX1_append N σ x0 x1 = some res → W p l e R s m args below meth c H locs cells slots (MQ below (Qd E R.cells R.slots none res) args s R.cells R.slots (fr E)) (F0 m 0 ls []) := by
  intro x0 x1 σ H locs cells slots ls I hl hf
  obtain ⟨⟨hx, hb, hml, hown, hts⟩, -⟩ := id X
  unfold fX1_append at hf
  refine lv_aload_n hx hb dX1_append_0 rfl (lv_at hl 1 rfl) ?_
  refine lv_astore_n (lv' := [(2, .ref x1), (0, .ref x0), (1, .ref x1)]) hx hb dX1_append_1 rfl hl (by decide) rfl (fun ls hl => ?_)
  refine lv_aload_n hx hb dX1_append_2 rfl (lv_at hl 0 rfl) ?_
  obtain ⟨v_10, ev_10, hf⟩ := ob hf
  refine g_alen X I ev_10 dX1_append_3 ?_
  refine lv_istore_n (lv' := [(3, .int v_10), (2, .ref x1), (0, .ref x0), (1, .ref x1)]) hx hb dX1_append_4 rfl hl (by decide) rfl (fun ls hl => ?_)
  refine lv_iconst (v := 0) hx hb dX1_append_5 (by decide) ?_
  refine lv_istore (lv' := [(4, .int (0 : Int32)), (3, .int v_10), (2, .ref x1), (0, .ref x0), (1, .ref x1)]) hx hb dX1_append_6 hl (by decide) rfl (fun ls hl => ?_)
  exact wX1_append_8 hX hR X N N x0 x1 v_10 (0 : Int32) σ _ _ _ _ _ I (lv_sub hl [3, 2, 1, 0] rfl) hf
theorem mX1_append {E : EV} {l : Launch} {N : Nat} {σ : St} {x0 : Nat} {x1 : Nat} {res : St} (hX : XK E) (hf : fX1_append N σ x0 x1 = some res) : CM E l yX1_append (ws_ yX1_append cX1_append 7 none) 0 0 [.ref x0, .ref x1] σ none res := by
  refine CM.of hX.1 (by decide) rfl rfl (Nat.le_of_ble_eq_true rfl) ?_
  intro p e s m below meth c X I ls hl
  exact wX1_append_0 hX ⟨Nat.le_refl _, Nat.le_refl _⟩ X N _ _ _ _ _ _ _ _ I hl hf
/-! SharedTaxis.feed(IIIII)I imp=True fuel=True kap=False rt=I thr=False -/
theorem lvX1_154 : GoodIn lw_all (wsV RX1 154 RX1 yX1_append (ws_ yX1_append cX1_append 7 none)) := lw_V q326 q328 qs0 q113 q329
theorem hdX1_154 : yX1_append.cls = RX1 ∧ yX1_append.cls ≠ "java/lang/invoke/MethodHandle" ∧ yX1_append.cls ≠ "java/lang/invoke/VarHandle" ∧ (parseMethodDescriptor yX1_append.desc).map (fun d => d.parameters.length) = some 1 := by decide +kernel
def fX1_feed (N : Nat) (σ : St) (x0 : Nat) (x1 : Int32) (x2 : Int32) (x3 : Int32) (x4 : Int32) (x5 : Int32) : Option (Int32 × St) := (gI σ x0 [(0, 1)]).bind fun v_1 : Int32 => if (v_1 + (20 : Int32)) ≤ (800 : Int32) then (an (5 : Int32)).bind fun k_2 : Nat => (nH σ k_2 (.inl (0, z0 0 k_2))).bind fun (q_3a, q_3s) => (sI q_3s q_3a 0 (0 : Int32) x1).bind fun σ_4 : St => (sI σ_4 q_3a 0 (1 : Int32) x2).bind fun σ_5 : St => (sI σ_5 q_3a 0 (2 : Int32) x3).bind fun σ_6 : St => (sI σ_6 q_3a 0 (3 : Int32) x4).bind fun σ_7 : St => (sI σ_7 q_3a 0 (4 : Int32) x5).bind fun σ_8 : St => (isC σ_8 x0 0).bind fun u_9 : Unit => (fX1_append N σ_8 x0 q_3a).bind fun σ_11 : St => (gI σ_11 x0 [(0, 1)]).bind fun v_12 : Int32 => some (v_12, σ_11) else some ((-1 : Int32), σ)
theorem wX1_feed_0 {E : EV} {l : Launch} {p : Program} {e : Env} {s : State} {m : MethodId} {args : Array Value} {below : List Frame} {meth : Method} {c : Code} {R : Room} {res : (Int32 × St)} (hX : XK E) (hR : 1 ≤ R.frames ∧ 26 ≤ R.locals) (X : MX E p s m args meth c cX1_feed 6 (some .int) RX1 "feed") (N : Nat) : ∀ (x0 : Nat) (x1 : Int32) (x2 : Int32) (x3 : Int32) (x4 : Int32) (x5 : Int32) (σ : St) (H : Heap) (locs : List Loc) (cells slots : Nat) (ls : Array Slot), WI E R s σ H locs cells slots → lv_has ls 6 [(0, .ref x0), (1, .int x1), (2, .int x2), (3, .int x3), (4, .int x4), (5, .int x5)] → fX1_feed N σ x0 x1 x2 x3 x4 x5 = some res → W p l e R s m args below meth c H locs cells slots (MQ below (Qd E R.cells R.slots (some (.int res.1)) res.2) args s R.cells R.slots (fr E)) (F0 m 0 ls []) := by
  intro x0 x1 x2 x3 x4 x5 σ H locs cells slots ls I hl hf
  obtain ⟨⟨hx, hb, hml, hown, hts⟩, -⟩ := id X
  unfold fX1_feed at hf
  refine lv_aload_n hx hb dX1_feed_0 rfl (lv_at hl 0 rfl) ?_
  obtain ⟨v_1, ev_1, hf⟩ := ob hf
  refine g_get X I gfX1_151 (gI_in ev_1) dX1_feed_1 ?_
  refine lv_bipush (v := 20) hx hb dX1_feed_4 (by decide) ?_
  refine lv_iadd hx hb dX1_feed_6 ?_
  refine lv_sipush (v := 800) hx hb dX1_feed_7 (by decide) ?_
  refine lv_icmp_le (tgt := 15) hx hb dX1_feed_10 (by decide) (fun c_10 => ?_) (fun c_10 => ?_)
  · have hf := ip c_10 hf
    refine lv_aload_n hx hb dX1_feed_15 rfl (lv_at hl 0 rfl) ?_
    refine lv_iconst (v := 5) hx hb dX1_feed_16 (by decide) ?_
    obtain ⟨k_2, ek_2, hf⟩ := ob hf
    obtain ⟨⟨q_3a, q_3s⟩, eq_3, hf⟩ := ob hf
    refine g_newa (atype := .int) (t := 0) X I (by decide) rfl q198 ek_2 eq_3 dX1_feed_17 (fun H locs cells slots I => ?_)
    refine lv_dup hx hb dX1_feed_19 rfl ?_
    refine lv_iconst (v := 0) hx hb dX1_feed_20 (by decide) ?_
    refine lv_iload_n hx hb dX1_feed_21 rfl (lv_at hl 1 rfl) ?_
    obtain ⟨σ_4, eσ_4, hf⟩ := ob hf
    refine g_iast X I eσ_4 dX1_feed_22 (fun H locs I => ?_)
    refine lv_dup hx hb dX1_feed_23 rfl ?_
    refine lv_iconst (v := 1) hx hb dX1_feed_24 (by decide) ?_
    refine lv_iload_n hx hb dX1_feed_25 rfl (lv_at hl 2 rfl) ?_
    obtain ⟨σ_5, eσ_5, hf⟩ := ob hf
    refine g_iast X I eσ_5 dX1_feed_26 (fun H locs I => ?_)
    refine lv_dup hx hb dX1_feed_27 rfl ?_
    refine lv_iconst (v := 2) hx hb dX1_feed_28 (by decide) ?_
    refine lv_iload_n hx hb dX1_feed_29 rfl (lv_at hl 3 rfl) ?_
    obtain ⟨σ_6, eσ_6, hf⟩ := ob hf
    refine g_iast X I eσ_6 dX1_feed_30 (fun H locs I => ?_)
    refine lv_dup hx hb dX1_feed_31 rfl ?_
    refine lv_iconst (v := 3) hx hb dX1_feed_32 (by decide) ?_
    refine lv_iload hx hb dX1_feed_33 (lv_at hl 4 rfl) ?_
    obtain ⟨σ_7, eσ_7, hf⟩ := ob hf
    refine g_iast X I eσ_7 dX1_feed_35 (fun H locs I => ?_)
    refine lv_dup hx hb dX1_feed_36 rfl ?_
    refine lv_iconst (v := 4) hx hb dX1_feed_37 (by decide) ?_
    refine lv_iload hx hb dX1_feed_38 (lv_at hl 5 rfl) ?_
    obtain ⟨σ_8, eσ_8, hf⟩ := ob hf
    refine g_iast X I eσ_8 dX1_feed_40 (fun H locs I => ?_)
    obtain ⟨u_9, eu_9, hf⟩ := ob hf
    obtain ⟨σ_11, ev_10, hf⟩ := ob hf
    refine cg_V (vw := (RX1, TX1, 7)) (ci := 0) (r := none) (σ' := σ_11) (rs := []) (rest := []) (As := [.ref q_3a]) X I eu_9 rfl (mX1_append hX ev_10) lvX1_154 hdX1_154 ⟨Nat.le_trans (Nat.le_of_ble_eq_true rfl) hR.1, Nat.le_trans (Nat.le_of_ble_eq_true rfl) hR.2⟩ rfl hl.1 rfl (Nat.le_of_ble_eq_true rfl) rfl dX1_feed_41 (fun H locs cells slots I => ?_)
    refine lv_aload_n hx hb dX1_feed_44 rfl (lv_at hl 0 rfl) ?_
    obtain ⟨v_12, ev_12, hf⟩ := ob hf
    refine g_get X I gfX1_151 (gI_in ev_12) dX1_feed_45 ?_
    cases os hf
    exact r_iret X I dX1_feed_48
  · have hf := im c_10 hf
    refine lv_iconst (v := (-1)) hx hb dX1_feed_13 (by decide) ?_
    cases os hf
    exact r_iret X I dX1_feed_14
theorem mX1_feed {E : EV} {l : Launch} {N : Nat} {σ : St} {x0 : Nat} {x1 : Int32} {x2 : Int32} {x3 : Int32} {x4 : Int32} {x5 : Int32} {res : (Int32 × St)} (hX : XK E) (hf : fX1_feed N σ x0 x1 x2 x3 x4 x5 = some res) : CM E l yX1_feed (ws_ yX1_feed cX1_feed 6 (some .int)) 1 26 [.ref x0, .int x1, .int x2, .int x3, .int x4, .int x5] σ (some (.int res.1)) res.2 := by
  refine CM.of hX.1 (by decide) rfl rfl (Nat.le_of_ble_eq_true rfl) ?_
  intro p e s m below meth c X I ls hl
  exact wX1_feed_0 hX ⟨Nat.le_refl _, Nat.le_refl _⟩ X N _ _ _ _ _ _ _ _ _ _ _ _ I hl hf
/-! SharedTaxis.errorPosition()I imp=False fuel=False kap=False rt=I thr=False -/
theorem gfX1_73 : ∀ q ∈ ([(0, 2)] : List (Nat × Nat)), GF RX1 73 q := List.forall_mem_cons.mpr ⟨⟨RX1, TX1, 7, _, rfl, in_X1, by decide, q301, Or.inl rfl⟩, fun _ h => by cases h⟩
def fX1_errorPosition (σ : St) (x0 : Nat) : Option Int32 := (gI σ x0 [(0, 2)]).bind fun v_1 : Int32 => some v_1
theorem wX1_errorPosition_0 {E : EV} {l : Launch} {p : Program} {e : Env} {s : State} {m : MethodId} {args : Array Value} {below : List Frame} {meth : Method} {c : Code} {R : Room} {σ : St} {res : Int32} (hX : XK E) (hR : 0 ≤ R.frames ∧ 0 ≤ R.locals) (X : MX E p s m args meth c cX1_errorPosition 1 (some .int) RX1 "errorPosition") : ∀ (x0 : Nat) (H : Heap) (locs : List Loc) (cells slots : Nat) (ls : Array Slot), WI E R s σ H locs cells slots → lv_has ls 1 [(0, .ref x0)] → fX1_errorPosition σ x0 = some res → W p l e R s m args below meth c H locs cells slots (MQ below (Qd E R.cells R.slots (some (.int res)) σ) args s R.cells R.slots (fr E)) (F0 m 0 ls []) := by
  intro x0 H locs cells slots ls I hl hf
  obtain ⟨⟨hx, hb, hml, hown, hts⟩, -⟩ := id X
  unfold fX1_errorPosition at hf
  refine lv_aload_n hx hb dX1_errorPosition_0 rfl (lv_at hl 0 rfl) ?_
  obtain ⟨v_1, ev_1, hf⟩ := ob hf
  refine g_get X I gfX1_73 (gI_in ev_1) dX1_errorPosition_1 ?_
  cases os hf
  exact r_iret X I dX1_errorPosition_4
theorem mX1_errorPosition {E : EV} {l : Launch} {σ : St} {x0 : Nat} {res : Int32} (hX : XK E) (hf : fX1_errorPosition σ x0 = some res) : CM E l yX1_errorPosition (ws_ yX1_errorPosition cX1_errorPosition 1 (some .int)) 0 0 [.ref x0] σ (some (.int res)) σ := by
  refine CM.of hX.1 (by decide) rfl rfl (Nat.le_of_ble_eq_true rfl) ?_
  intro p e s m below meth c X I ls hl
  exact wX1_errorPosition_0 hX ⟨Nat.le_refl _, Nat.le_refl _⟩ X _ _ _ _ _ _ I hl hf
/-! SharedTaxis.meanFare()D imp=True fuel=True kap=False rt=D thr=False -/
def fX1_meanFare_17 (N : Nat) : Nat → Int32 → Int32 → Nat → St → Option (UInt64 × St)
  | 0, _, _, _, _ => none
  | n + 1, x1, x2, x3, σ => (isC σ x3 28).bind fun u_1 : Unit => (fJ21_hasNext σ x3).bind fun v_2 : Int32 => if v_2 = 0 then if x2 = 0 then some (FP.dconst0, σ) else  if nn64 (FP.ddiv (FP.i2d x1) (FP.i2d x2)) = true then (some ((FP.ddiv (FP.i2d x1) (FP.i2d x2)), σ)) else none else (isC σ x3 28).bind fun u_4 : Unit => (fJ21_next σ x3).bind fun (v_5, σ_6) => (v_5).bind fun a_7 : Nat => (isC σ_6 a_7 14).bind fun u_8 : Unit => (gI σ_6 a_7 [(14, 8)]).bind fun v_9 : Int32 => if v_9 = (3 : Int32) then (gI σ_6 a_7 [(14, 12)]).bind fun v_10 : Int32 => lt (x1 + v_10) fun x1_11 : Int32 => lt (x2 + 1) fun x2_12 : Int32 => fX1_meanFare_17 N n x1_11 x2_12 x3 σ_6 else fX1_meanFare_17 N n x1 x2 x3 σ_6
def fX1_meanFare (N : Nat) (σ : St) (x0 : Nat) : Option (UInt64 × St) := (gR σ x0 [(0, 3)]).bind fun v_13 : Option Nat => (v_13).bind fun a_14 : Nat => (gR σ a_14 [(1, 6)]).bind fun v_15 : Option Nat => (v_15).bind fun a_16 : Nat => (isC σ a_16 21).bind fun u_17 : Unit => (fJ2_iterator σ a_16).bind fun (v_18, σ_19) => fX1_meanFare_17 N N (0 : Int32) (0 : Int32) v_18 σ_19
theorem wX1_meanFare_17 {E : EV} {l : Launch} {p : Program} {e : Env} {s : State} {m : MethodId} {args : Array Value} {below : List Frame} {meth : Method} {c : Code} {R : Room} {res : (UInt64 × St)} (hX : XK E) (hR : 3 ≤ R.frames ∧ 61 ≤ R.locals) (X : MX E p s m args meth c cX1_meanFare 5 (some .double) RX1 "meanFare") (N : Nat) : ∀ (n : Nat) (x1 : Int32) (x2 : Int32) (x3 : Nat) (σ : St) (H : Heap) (locs : List Loc) (cells slots : Nat) (ls : Array Slot), WI E R s σ H locs cells slots → lv_has ls 5 [(1, .int x1), (2, .int x2), (3, .ref x3)] → fX1_meanFare_17 N n x1 x2 x3 σ = some res → W p l e R s m args below meth c H locs cells slots (MQ below (Qd E R.cells R.slots (some (.double res.1)) res.2) args s R.cells R.slots (fr E)) (F0 m 17 ls []) := by
  intro n
  induction n with
  | zero => intro x1 x2 x3 σ H locs cells slots ls I hl hf; exact nomatch (show none = some res from hf)
  | succ n ih =>
    intro x1 x2 x3 σ H locs cells slots ls I hl hf
    obtain ⟨⟨hx, hb, hml, hown, hts⟩, -⟩ := id X
    rw [fX1_meanFare_17.eq_2] at hf
    refine lv_aload_n hx hb dX1_meanFare_17 rfl (lv_at hl 2 rfl) ?_
    obtain ⟨u_1, eu_1, hf⟩ := ob hf
    obtain ⟨v_2, ev_2, hf⟩ := ob hf
    refine cg_F (vw := (RJ21, TJ21, 4)) (ci := 28) (r := (some (.int v_2))) (σ' := σ) (rs := [.int v_2]) (rest := []) (As := []) hX X I eu_1 rfl (mJ21_hasNext hX ev_2) lvX1_194_J21 hdX1_194_J21 ⟨Nat.le_trans (Nat.le_of_ble_eq_true rfl) hR.1, Nat.le_trans (Nat.le_of_ble_eq_true rfl) hR.2⟩ rfl hl.1 rfl (Nat.le_of_ble_eq_true rfl) rfl dX1_meanFare_18 (fun H locs cells slots I => ?_)
    refine lv_if_eq (tgt := 60) hx hb dX1_meanFare_23 (by decide) (fun c_23 => ?_) (fun c_23 => ?_)
    · have hf := ip c_23 hf
      refine lv_iload_n hx hb dX1_meanFare_60 rfl (lv_at hl 1 rfl) ?_
      refine lv_if_ne (tgt := 68) hx hb dX1_meanFare_61 (by decide) (fun c_61 => ?_) (fun c_61 => ?_)
      · have hf := im c_61 hf
        refine lv_iload_n hx hb dX1_meanFare_68 rfl (lv_at hl 0 rfl) ?_
        refine lv_i2d hx hb dX1_meanFare_69 ?_
        refine lv_iload_n hx hb dX1_meanFare_70 rfl (lv_at hl 1 rfl) ?_
        refine lv_i2d hx hb dX1_meanFare_71 ?_
        by_cases d_72 : ¬ nn64 (FP.ddiv (FP.i2d x1) (FP.i2d x2)) = true
        · exact nomatch (im d_72 hf)
        have c_72 := Decidable.not_not.mp d_72
        have hf := ip c_72 hf
        refine lv_ddiv hx hb dX1_meanFare_72 (nn64_ok c_72) ?_
        cases os hf
        exact r_dret X I dX1_meanFare_73
      · have hf := ip c_61 hf
        refine lv_dconst0 hx hb dX1_meanFare_64 ?_
        refine lv_goto (tgt := 73) hx hb dX1_meanFare_65 (by decide) ?_
        cases os hf
        exact r_dret X I dX1_meanFare_73
    · have hf := im c_23 hf
      refine lv_aload_n hx hb dX1_meanFare_26 rfl (lv_at hl 2 rfl) ?_
      obtain ⟨u_4, eu_4, hf⟩ := ob hf
      obtain ⟨⟨v_5, σ_6⟩, ev_5, hf⟩ := ob hf
      refine cg_F (vw := (RJ21, TJ21, 4)) (ci := 28) (r := (some (va_rf v_5))) (σ' := σ_6) (rs := [va_rf v_5]) (rest := []) (As := []) hX X I eu_4 rfl (mJ21_next hX ev_5) lvX1_200_J21 hdX1_200_J21 ⟨Nat.le_trans (Nat.le_of_ble_eq_true rfl) hR.1, Nat.le_trans (Nat.le_of_ble_eq_true rfl) hR.2⟩ rfl hl.1 rfl (Nat.le_of_ble_eq_true rfl) rfl dX1_meanFare_27 (fun H locs cells slots I => ?_)
      obtain ⟨a_7, ea_7, hga_7⟩ := ob hf
      have hla_7 := hl
      have Ia_7 := I
      subst ea_7
      have hf := hga_7
      have hl := hla_7
      have I := Ia_7
      obtain ⟨u_8, eu_8, hf⟩ := ob hf
      refine g_cast (vw := (RX16, TX16, 15)) X I rfl q800 eu_8 dX1_meanFare_32 ?_
      refine lv_astore (lv' := [(4, .ref a_7), (1, .int x1), (2, .int x2), (3, .ref x3)]) hx hb dX1_meanFare_35 hl (by decide) rfl (fun ls hl => ?_)
      refine lv_aload hx hb dX1_meanFare_37 (lv_at hl 0 rfl) ?_
      obtain ⟨v_9, ev_9, hf⟩ := ob hf
      refine g_getN hX X I gfX1_313 (gI_in ev_9) dX1_meanFare_39 ?_
      refine lv_iconst (v := 3) hx hb dX1_meanFare_42 (by decide) ?_
      refine lv_icmp_ne (tgt := 57) hx hb dX1_meanFare_43 (by decide) (fun c_43 => ?_) (fun c_43 => ?_)
      · have hf := im c_43 hf
        refine lv_goto (tgt := 17) hx hb dX1_meanFare_57 (by decide) ?_
        exact ih x1 x2 x3 σ_6 _ _ _ _ _ I (lv_sub hl [1, 2, 3] rfl) hf
      · have hf := ip c_43 hf
        refine lv_iload_n hx hb dX1_meanFare_46 rfl (lv_at hl 1 rfl) ?_
        refine lv_aload hx hb dX1_meanFare_47 (lv_at hl 0 rfl) ?_
        obtain ⟨v_10, ev_10, hf⟩ := ob hf
        refine g_getN hX X I gfX1_342 (gI_in ev_10) dX1_meanFare_49 ?_
        refine lv_iadd hx hb dX1_meanFare_52 ?_
        obtain ⟨x1_11, ex1_11, hf⟩ := ol hf
        refine nm_i ex1_11 ?_
        refine lv_istore_n (lv' := [(1, .int x1_11), (4, .ref a_7), (2, .int x2), (3, .ref x3)]) hx hb dX1_meanFare_53 rfl hl (by decide) rfl (fun ls hl => ?_)
        obtain ⟨x2_12, ex2_12, hf⟩ := ol hf
        refine lv_iinc (v := x2_12) (lv' := [(2, .int x2_12), (1, .int x1_11), (4, .ref a_7), (3, .ref x3)]) hx hb dX1_meanFare_54 hl (k := 2) rfl ex2_12 (by decide) rfl (fun ls hl => ?_)
        refine lv_goto (tgt := 17) hx hb dX1_meanFare_57 (by decide) ?_
        exact ih x1_11 x2_12 x3 σ_6 _ _ _ _ _ I (lv_sub hl [1, 0, 3] rfl) hf
theorem wX1_meanFare_0 {E : EV} {l : Launch} {p : Program} {e : Env} {s : State} {m : MethodId} {args : Array Value} {below : List Frame} {meth : Method} {c : Code} {R : Room} {res : (UInt64 × St)} (hX : XK E) (hR : 3 ≤ R.frames ∧ 61 ≤ R.locals) (X : MX E p s m args meth c cX1_meanFare 5 (some .double) RX1 "meanFare") (N : Nat) : ∀ (x0 : Nat) (σ : St) (H : Heap) (locs : List Loc) (cells slots : Nat) (ls : Array Slot), WI E R s σ H locs cells slots → lv_has ls 5 [(0, .ref x0)] → fX1_meanFare N σ x0 = some res → W p l e R s m args below meth c H locs cells slots (MQ below (Qd E R.cells R.slots (some (.double res.1)) res.2) args s R.cells R.slots (fr E)) (F0 m 0 ls []) := by
  intro x0 σ H locs cells slots ls I hl hf
  obtain ⟨⟨hx, hb, hml, hown, hts⟩, -⟩ := id X
  unfold fX1_meanFare at hf
  refine lv_iconst (v := 0) hx hb dX1_meanFare_0 (by decide) ?_
  refine lv_istore_n (lv' := [(1, .int (0 : Int32)), (0, .ref x0)]) hx hb dX1_meanFare_1 rfl hl (by decide) rfl (fun ls hl => ?_)
  refine lv_iconst (v := 0) hx hb dX1_meanFare_2 (by decide) ?_
  refine lv_istore_n (lv' := [(2, .int (0 : Int32)), (1, .int (0 : Int32)), (0, .ref x0)]) hx hb dX1_meanFare_3 rfl hl (by decide) rfl (fun ls hl => ?_)
  refine lv_aload_n hx hb dX1_meanFare_4 rfl (lv_at hl 2 rfl) ?_
  obtain ⟨v_13, ev_13, hf⟩ := ob hf
  refine g_get X I gfX1_87 (gR_in ev_13) dX1_meanFare_5 ?_
  obtain ⟨a_14, ea_14, hga_14⟩ := ob hf
  have hla_14 := hl
  have Ia_14 := I
  subst ea_14
  have hf := hga_14
  have hl := hla_14
  have I := Ia_14
  obtain ⟨v_15, ev_15, hf⟩ := ob hf
  refine g_getN hX X I gfX1_146 (gR_in ev_15) dX1_meanFare_8 ?_
  obtain ⟨a_16, ea_16, hga_16⟩ := ob hf
  have hla_16 := hl
  have Ia_16 := I
  subst ea_16
  have hf := hga_16
  have hl := hla_16
  have I := Ia_16
  obtain ⟨u_17, eu_17, hf⟩ := ob hf
  obtain ⟨⟨v_18, σ_19⟩, ev_18, hf⟩ := ob hf
  refine cg_F (vw := (RJ2, TJ2, 3)) (ci := 21) (r := (some (.ref v_18))) (σ' := σ_19) (rs := [.ref v_18]) (rest := []) (As := []) hX X I eu_17 rfl (mJ2_iterator hX ev_18) lvX1_190_J2 hdX1_190_J2 ⟨Nat.le_trans (Nat.le_of_ble_eq_true rfl) hR.1, Nat.le_trans (Nat.le_of_ble_eq_true rfl) hR.2⟩ rfl hl.1 rfl (Nat.le_of_ble_eq_true rfl) rfl dX1_meanFare_11 (fun H locs cells slots I => ?_)
  refine lv_astore_n (lv' := [(3, .ref v_18), (2, .int (0 : Int32)), (1, .int (0 : Int32)), (0, .ref x0)]) hx hb dX1_meanFare_16 rfl hl (by decide) rfl (fun ls hl => ?_)
  exact wX1_meanFare_17 hX hR X N N (0 : Int32) (0 : Int32) v_18 σ_19 _ _ _ _ _ I (lv_sub hl [2, 1, 0] rfl) hf
theorem mX1_meanFare {E : EV} {l : Launch} {N : Nat} {σ : St} {x0 : Nat} {res : (UInt64 × St)} (hX : XK E) (hf : fX1_meanFare N σ x0 = some res) : CM E l yX1_meanFare (ws_ yX1_meanFare cX1_meanFare 5 (some .double)) 3 61 [.ref x0] σ (some (.double res.1)) res.2 := by
  refine CM.of hX.1 (by decide) rfl rfl (Nat.le_of_ble_eq_true rfl) ?_
  intro p e s m below meth c X I ls hl
  exact wX1_meanFare_0 hX ⟨Nat.le_refl _, Nat.le_refl _⟩ X N _ _ _ _ _ _ _ I hl hf
/-! SharedTaxis.sharedPart()F imp=True fuel=True kap=False rt=F thr=False -/
theorem gfX1_418 : ∀ q ∈ ([(10, 13)] : List (Nat × Nat)), GN RX1 418 q := List.forall_mem_cons.mpr ⟨⟨RX12, TX12, 15, _, rfl, in_X12, by decide, q952⟩, fun _ h => by cases h⟩
theorem gfX1_421 : ∀ q ∈ ([(10, 12)] : List (Nat × Nat)), GN RX1 421 q := List.forall_mem_cons.mpr ⟨⟨RX12, TX12, 15, _, rfl, in_X12, by decide, q949⟩, fun _ h => by cases h⟩
def fX1_sharedPart_17 (N : Nat) : Nat → Int32 → Int32 → Nat → St → Option (UInt32 × St)
  | 0, _, _, _, _ => none
  | n + 1, x1, x2, x3, σ => (isC σ x3 28).bind fun u_1 : Unit => (fJ21_hasNext σ x3).bind fun v_2 : Int32 => if v_2 = 0 then if x2 = 0 then some (FP.fconst0, σ) else  if nn32 (FP.fdiv (FP.i2f x1) (FP.i2f x2)) = true then (some ((FP.fdiv (FP.i2f x1) (FP.i2f x2)), σ)) else none else (isC σ x3 28).bind fun u_4 : Unit => (fJ21_next σ x3).bind fun (v_5, σ_6) => (v_5).bind fun a_7 : Nat => (isC σ_6 a_7 10).bind fun u_8 : Unit => (gI σ_6 a_7 [(10, 13)]).bind fun v_9 : Int32 => lt (x1 + v_9) fun x1_10 : Int32 => (gI σ_6 a_7 [(10, 12)]).bind fun v_11 : Int32 => lt (x2 + v_11) fun x2_12 : Int32 => fX1_sharedPart_17 N n x1_10 x2_12 x3 σ_6
def fX1_sharedPart (N : Nat) (σ : St) (x0 : Nat) : Option (UInt32 × St) := (gR σ x0 [(0, 3)]).bind fun v_13 : Option Nat => (v_13).bind fun a_14 : Nat => (gR σ a_14 [(1, 5)]).bind fun v_15 : Option Nat => (v_15).bind fun a_16 : Nat => (isC σ a_16 21).bind fun u_17 : Unit => (fJ2_iterator σ a_16).bind fun (v_18, σ_19) => fX1_sharedPart_17 N N (0 : Int32) (0 : Int32) v_18 σ_19
theorem wX1_sharedPart_17 {E : EV} {l : Launch} {p : Program} {e : Env} {s : State} {m : MethodId} {args : Array Value} {below : List Frame} {meth : Method} {c : Code} {R : Room} {res : (UInt32 × St)} (hX : XK E) (hR : 3 ≤ R.frames ∧ 61 ≤ R.locals) (X : MX E p s m args meth c cX1_sharedPart 5 (some .float) RX1 "sharedPart") (N : Nat) : ∀ (n : Nat) (x1 : Int32) (x2 : Int32) (x3 : Nat) (σ : St) (H : Heap) (locs : List Loc) (cells slots : Nat) (ls : Array Slot), WI E R s σ H locs cells slots → lv_has ls 5 [(1, .int x1), (2, .int x2), (3, .ref x3)] → fX1_sharedPart_17 N n x1 x2 x3 σ = some res → W p l e R s m args below meth c H locs cells slots (MQ below (Qd E R.cells R.slots (some (.float res.1)) res.2) args s R.cells R.slots (fr E)) (F0 m 17 ls []) := by
  intro n
  induction n with
  | zero => intro x1 x2 x3 σ H locs cells slots ls I hl hf; exact nomatch (show none = some res from hf)
  | succ n ih =>
    intro x1 x2 x3 σ H locs cells slots ls I hl hf
    obtain ⟨⟨hx, hb, hml, hown, hts⟩, -⟩ := id X
    rw [fX1_sharedPart_17.eq_2] at hf
    refine lv_aload_n hx hb dX1_sharedPart_17 rfl (lv_at hl 2 rfl) ?_
    obtain ⟨u_1, eu_1, hf⟩ := ob hf
    obtain ⟨v_2, ev_2, hf⟩ := ob hf
    refine cg_F (vw := (RJ21, TJ21, 4)) (ci := 28) (r := (some (.int v_2))) (σ' := σ) (rs := [.int v_2]) (rest := []) (As := []) hX X I eu_1 rfl (mJ21_hasNext hX ev_2) lvX1_194_J21 hdX1_194_J21 ⟨Nat.le_trans (Nat.le_of_ble_eq_true rfl) hR.1, Nat.le_trans (Nat.le_of_ble_eq_true rfl) hR.2⟩ rfl hl.1 rfl (Nat.le_of_ble_eq_true rfl) rfl dX1_sharedPart_18 (fun H locs cells slots I => ?_)
    refine lv_if_eq (tgt := 56) hx hb dX1_sharedPart_23 (by decide) (fun c_23 => ?_) (fun c_23 => ?_)
    · have hf := ip c_23 hf
      refine lv_iload_n hx hb dX1_sharedPart_56 rfl (lv_at hl 1 rfl) ?_
      refine lv_if_ne (tgt := 64) hx hb dX1_sharedPart_57 (by decide) (fun c_57 => ?_) (fun c_57 => ?_)
      · have hf := im c_57 hf
        refine lv_iload_n hx hb dX1_sharedPart_64 rfl (lv_at hl 0 rfl) ?_
        refine lv_i2f hx hb dX1_sharedPart_65 ?_
        refine lv_iload_n hx hb dX1_sharedPart_66 rfl (lv_at hl 1 rfl) ?_
        refine lv_i2f hx hb dX1_sharedPart_67 ?_
        by_cases d_68 : ¬ nn32 (FP.fdiv (FP.i2f x1) (FP.i2f x2)) = true
        · exact nomatch (im d_68 hf)
        have c_68 := Decidable.not_not.mp d_68
        have hf := ip c_68 hf
        refine lv_fdiv hx hb dX1_sharedPart_68 (nn32_ok c_68) ?_
        cases os hf
        exact r_fret X I dX1_sharedPart_69
      · have hf := ip c_57 hf
        refine lv_fconst0 hx hb dX1_sharedPart_60 ?_
        refine lv_goto (tgt := 69) hx hb dX1_sharedPart_61 (by decide) ?_
        cases os hf
        exact r_fret X I dX1_sharedPart_69
    · have hf := im c_23 hf
      refine lv_aload_n hx hb dX1_sharedPart_26 rfl (lv_at hl 2 rfl) ?_
      obtain ⟨u_4, eu_4, hf⟩ := ob hf
      obtain ⟨⟨v_5, σ_6⟩, ev_5, hf⟩ := ob hf
      refine cg_F (vw := (RJ21, TJ21, 4)) (ci := 28) (r := (some (va_rf v_5))) (σ' := σ_6) (rs := [va_rf v_5]) (rest := []) (As := []) hX X I eu_4 rfl (mJ21_next hX ev_5) lvX1_200_J21 hdX1_200_J21 ⟨Nat.le_trans (Nat.le_of_ble_eq_true rfl) hR.1, Nat.le_trans (Nat.le_of_ble_eq_true rfl) hR.2⟩ rfl hl.1 rfl (Nat.le_of_ble_eq_true rfl) rfl dX1_sharedPart_27 (fun H locs cells slots I => ?_)
      obtain ⟨a_7, ea_7, hga_7⟩ := ob hf
      have hla_7 := hl
      have Ia_7 := I
      subst ea_7
      have hf := hga_7
      have hl := hla_7
      have I := Ia_7
      obtain ⟨u_8, eu_8, hf⟩ := ob hf
      refine g_cast (vw := (RX12, TX12, 15)) X I rfl q805 eu_8 dX1_sharedPart_32 ?_
      refine lv_astore (lv' := [(4, .ref a_7), (1, .int x1), (2, .int x2), (3, .ref x3)]) hx hb dX1_sharedPart_35 hl (by decide) rfl (fun ls hl => ?_)
      refine lv_iload_n hx hb dX1_sharedPart_37 rfl (lv_at hl 1 rfl) ?_
      refine lv_aload hx hb dX1_sharedPart_38 (lv_at hl 0 rfl) ?_
      obtain ⟨v_9, ev_9, hf⟩ := ob hf
      refine g_getN hX X I gfX1_418 (gI_in ev_9) dX1_sharedPart_40 ?_
      refine lv_iadd hx hb dX1_sharedPart_43 ?_
      obtain ⟨x1_10, ex1_10, hf⟩ := ol hf
      refine nm_i ex1_10 ?_
      refine lv_istore_n (lv' := [(1, .int x1_10), (4, .ref a_7), (2, .int x2), (3, .ref x3)]) hx hb dX1_sharedPart_44 rfl hl (by decide) rfl (fun ls hl => ?_)
      refine lv_iload_n hx hb dX1_sharedPart_45 rfl (lv_at hl 2 rfl) ?_
      refine lv_aload hx hb dX1_sharedPart_46 (lv_at hl 1 rfl) ?_
      obtain ⟨v_11, ev_11, hf⟩ := ob hf
      refine g_getN hX X I gfX1_421 (gI_in ev_11) dX1_sharedPart_48 ?_
      refine lv_iadd hx hb dX1_sharedPart_51 ?_
      obtain ⟨x2_12, ex2_12, hf⟩ := ol hf
      refine nm_i ex2_12 ?_
      refine lv_istore_n (lv' := [(2, .int x2_12), (1, .int x1_10), (4, .ref a_7), (3, .ref x3)]) hx hb dX1_sharedPart_52 rfl hl (by decide) rfl (fun ls hl => ?_)
      refine lv_goto (tgt := 17) hx hb dX1_sharedPart_53 (by decide) ?_
      exact ih x1_10 x2_12 x3 σ_6 _ _ _ _ _ I (lv_sub hl [1, 0, 3] rfl) hf
theorem wX1_sharedPart_0 {E : EV} {l : Launch} {p : Program} {e : Env} {s : State} {m : MethodId} {args : Array Value} {below : List Frame} {meth : Method} {c : Code} {R : Room} {res : (UInt32 × St)} (hX : XK E) (hR : 3 ≤ R.frames ∧ 61 ≤ R.locals) (X : MX E p s m args meth c cX1_sharedPart 5 (some .float) RX1 "sharedPart") (N : Nat) : ∀ (x0 : Nat) (σ : St) (H : Heap) (locs : List Loc) (cells slots : Nat) (ls : Array Slot), WI E R s σ H locs cells slots → lv_has ls 5 [(0, .ref x0)] → fX1_sharedPart N σ x0 = some res → W p l e R s m args below meth c H locs cells slots (MQ below (Qd E R.cells R.slots (some (.float res.1)) res.2) args s R.cells R.slots (fr E)) (F0 m 0 ls []) := by
  intro x0 σ H locs cells slots ls I hl hf
  obtain ⟨⟨hx, hb, hml, hown, hts⟩, -⟩ := id X
  unfold fX1_sharedPart at hf
  refine lv_iconst (v := 0) hx hb dX1_sharedPart_0 (by decide) ?_
  refine lv_istore_n (lv' := [(1, .int (0 : Int32)), (0, .ref x0)]) hx hb dX1_sharedPart_1 rfl hl (by decide) rfl (fun ls hl => ?_)
  refine lv_iconst (v := 0) hx hb dX1_sharedPart_2 (by decide) ?_
  refine lv_istore_n (lv' := [(2, .int (0 : Int32)), (1, .int (0 : Int32)), (0, .ref x0)]) hx hb dX1_sharedPart_3 rfl hl (by decide) rfl (fun ls hl => ?_)
  refine lv_aload_n hx hb dX1_sharedPart_4 rfl (lv_at hl 2 rfl) ?_
  obtain ⟨v_13, ev_13, hf⟩ := ob hf
  refine g_get X I gfX1_87 (gR_in ev_13) dX1_sharedPart_5 ?_
  obtain ⟨a_14, ea_14, hga_14⟩ := ob hf
  have hla_14 := hl
  have Ia_14 := I
  subst ea_14
  have hf := hga_14
  have hl := hla_14
  have I := Ia_14
  obtain ⟨v_15, ev_15, hf⟩ := ob hf
  refine g_getN hX X I gfX1_133 (gR_in ev_15) dX1_sharedPart_8 ?_
  obtain ⟨a_16, ea_16, hga_16⟩ := ob hf
  have hla_16 := hl
  have Ia_16 := I
  subst ea_16
  have hf := hga_16
  have hl := hla_16
  have I := Ia_16
  obtain ⟨u_17, eu_17, hf⟩ := ob hf
  obtain ⟨⟨v_18, σ_19⟩, ev_18, hf⟩ := ob hf
  refine cg_F (vw := (RJ2, TJ2, 3)) (ci := 21) (r := (some (.ref v_18))) (σ' := σ_19) (rs := [.ref v_18]) (rest := []) (As := []) hX X I eu_17 rfl (mJ2_iterator hX ev_18) lvX1_190_J2 hdX1_190_J2 ⟨Nat.le_trans (Nat.le_of_ble_eq_true rfl) hR.1, Nat.le_trans (Nat.le_of_ble_eq_true rfl) hR.2⟩ rfl hl.1 rfl (Nat.le_of_ble_eq_true rfl) rfl dX1_sharedPart_11 (fun H locs cells slots I => ?_)
  refine lv_astore_n (lv' := [(3, .ref v_18), (2, .int (0 : Int32)), (1, .int (0 : Int32)), (0, .ref x0)]) hx hb dX1_sharedPart_16 rfl hl (by decide) rfl (fun ls hl => ?_)
  exact wX1_sharedPart_17 hX hR X N N (0 : Int32) (0 : Int32) v_18 σ_19 _ _ _ _ _ I (lv_sub hl [2, 1, 0] rfl) hf
theorem mX1_sharedPart {E : EV} {l : Launch} {N : Nat} {σ : St} {x0 : Nat} {res : (UInt32 × St)} (hX : XK E) (hf : fX1_sharedPart N σ x0 = some res) : CM E l yX1_sharedPart (ws_ yX1_sharedPart cX1_sharedPart 5 (some .float)) 3 61 [.ref x0] σ (some (.float res.1)) res.2 := by
  refine CM.of hX.1 (by decide) rfl rfl (Nat.le_of_ble_eq_true rfl) ?_
  intro p e s m below meth c X I ls hl
  exact wX1_sharedPart_0 hX ⟨Nat.le_refl _, Nat.le_refl _⟩ X N _ _ _ _ _ _ _ I hl hf
/-! java/lang/StringLatin1.charAt([BI)C imp=False fuel=False kap=True rt=I thr=False -/
theorem lvJ15_9 : GoodIn lw_all (va_wsS RJ15 9 yJ10_checkIndex (ws_ yJ10_checkIndex cJ10_checkIndex 2 none)) := lw_S q825 q826 q129 q827
theorem hdJ15_9 : yJ10_checkIndex.cls ≠ "java/lang/invoke/MethodHandle" ∧ yJ10_checkIndex.cls ≠ "java/lang/invoke/VarHandle" ∧ (parseMethodDescriptor yJ10_checkIndex.desc).map (fun d => d.parameters.length) = some 2 := by decide +kernel
def fJ15_charAt (κ : Nat → Nat) (σ : St) (x0 : Nat) (x1 : Int32) : Option Int32 := (aL σ x0).bind fun v_1 : Int32 => (fJ10_checkIndex κ σ x1 v_1).bind fun v_2 : Unit => (aI σ x0 1 x1).bind fun v_4 : Int32 => if ((((v_4 &&& (255 : Int32)).toUInt32 % 65536).toInt32).toUInt32 % 65536).toInt32 = (((v_4 &&& (255 : Int32)).toUInt32 % 65536).toInt32) then some (((v_4 &&& (255 : Int32)).toUInt32 % 65536).toInt32) else none
theorem wJ15_charAt_0 {E : EV} {l : Launch} {p : Program} {e : Env} {s : State} {m : MethodId} {args : Array Value} {below : List Frame} {meth : Method} {c : Code} {R : Room} {σ : St} {res : Int32} (hX : XK E) (hR : 2 ≤ R.frames ∧ 43 ≤ R.locals) (X : MX E p s m args meth c cJ15_charAt 2 (some .char) RJ15 "charAt") : ∀ (x0 : Nat) (x1 : Int32) (H : Heap) (locs : List Loc) (cells slots : Nat) (ls : Array Slot), WI E R s σ H locs cells slots → lv_has ls 2 [(0, .ref x0), (1, .int x1)] → fJ15_charAt E.2.2.2.1 σ x0 x1 = some res → W p l e R s m args below meth c H locs cells slots (MQ below (Qd E R.cells R.slots (some (.int res)) σ) args s R.cells R.slots (fr E)) (F0 m 0 ls []) := by
  intro x0 x1 H locs cells slots ls I hl hf
  obtain ⟨⟨hx, hb, hml, hown, hts⟩, -⟩ := id X
  unfold fJ15_charAt at hf
  refine lv_iload_n hx hb dJ15_charAt_0 rfl (lv_at hl 1 rfl) ?_
  refine lv_aload_n hx hb dJ15_charAt_1 rfl (lv_at hl 0 rfl) ?_
  obtain ⟨v_1, ev_1, hf⟩ := ob hf
  refine g_alen X I ev_1 dJ15_charAt_2 ?_
  obtain ⟨v_2, ev_2, hf⟩ := ob hf
  refine cg_S (r := none) (σ' := σ) (rs := []) (rest := []) (As := [.int x1, .int v_1]) X I (mJ10_checkIndex hX ev_2) lvJ15_9 hdJ15_9 ⟨Nat.le_trans (Nat.le_of_ble_eq_true rfl) hR.1, Nat.le_trans (Nat.le_of_ble_eq_true rfl) hR.2⟩ rfl hl.1 rfl (Nat.le_of_ble_eq_true rfl) rfl dJ15_charAt_3 (fun H locs cells slots I => ?_)
  refine lv_aload_n hx hb dJ15_charAt_6 rfl (lv_at hl 0 rfl) ?_
  refine lv_iload_n hx hb dJ15_charAt_7 rfl (lv_at hl 1 rfl) ?_
  obtain ⟨v_4, ev_4, hf⟩ := ob hf
  refine g_bald X I ev_4 dJ15_charAt_8 ?_
  refine lv_sipush (v := 255) hx hb dJ15_charAt_9 (by decide) ?_
  refine lv_iand hx hb dJ15_charAt_12 ?_
  refine lv_i2c hx hb dJ15_charAt_13 rfl ?_
  by_cases d_14 : ¬ (((((v_4 &&& (255 : Int32)).toUInt32 % 65536).toInt32).toUInt32 % 65536).toInt32 = (((v_4 &&& (255 : Int32)).toUInt32 % 65536).toInt32))
  · exact nomatch (im d_14 hf)
  have c_14 := Decidable.not_not.mp d_14
  have hf := ip c_14 hf
  cases os hf
  exact r_nretC X I c_14 dJ15_charAt_14
theorem mJ15_charAt {E : EV} {l : Launch} {σ : St} {x0 : Nat} {x1 : Int32} {res : Int32} (hX : XK E) (hf : fJ15_charAt E.2.2.2.1 σ x0 x1 = some res) : CM E l yJ15_charAt (ws_ yJ15_charAt cJ15_charAt 2 (some .char)) 2 43 [.ref x0, .int x1] σ (some (.int res)) σ := by
  refine CM.of hX.1 (by decide) rfl rfl (Nat.le_of_ble_eq_true rfl) ?_
  intro p e s m below meth c X I ls hl
  exact wJ15_charAt_0 hX ⟨Nat.le_refl _, Nat.le_refl _⟩ X _ _ _ _ _ _ _ I hl hf
/-! java/lang/StringUTF16.charAt([BI)C imp=False fuel=False kap=True rt=I thr=False -/
def fJ11_charAt (κ : Nat → Nat) (σ : St) (x0 : Nat) (x1 : Int32) : Option Int32 := (fJ11_checkIndex κ σ x1 x0).bind fun v_1 : Unit => (fJ11_getChar σ x0 x1).bind fun v_3 : Int32 => if (v_3.toUInt32 % 65536).toInt32 = v_3 then some v_3 else none
theorem wJ11_charAt_0 {E : EV} {l : Launch} {p : Program} {e : Env} {s : State} {m : MethodId} {args : Array Value} {below : List Frame} {meth : Method} {c : Code} {R : Room} {σ : St} {res : Int32} (hX : XK E) (hR : 3 ≤ R.frames ∧ 64 ≤ R.locals) (X : MX E p s m args meth c cJ11_charAt 2 (some .char) RJ11 "charAt") : ∀ (x0 : Nat) (x1 : Int32) (H : Heap) (locs : List Loc) (cells slots : Nat) (ls : Array Slot), WI E R s σ H locs cells slots → lv_has ls 2 [(0, .ref x0), (1, .int x1)] → fJ11_charAt E.2.2.2.1 σ x0 x1 = some res → W p l e R s m args below meth c H locs cells slots (MQ below (Qd E R.cells R.slots (some (.int res)) σ) args s R.cells R.slots (fr E)) (F0 m 0 ls []) := by
  intro x0 x1 H locs cells slots ls I hl hf
  obtain ⟨⟨hx, hb, hml, hown, hts⟩, -⟩ := id X
  unfold fJ11_charAt at hf
  refine lv_iload_n hx hb dJ11_charAt_0 rfl (lv_at hl 1 rfl) ?_
  refine lv_aload_n hx hb dJ11_charAt_1 rfl (lv_at hl 0 rfl) ?_
  obtain ⟨v_1, ev_1, hf⟩ := ob hf
  refine cg_S (r := none) (σ' := σ) (rs := []) (rest := []) (As := [.int x1, .ref x0]) X I (mJ11_checkIndex hX ev_1) lvJ11_67 hdJ11_67 ⟨Nat.le_trans (Nat.le_of_ble_eq_true rfl) hR.1, Nat.le_trans (Nat.le_of_ble_eq_true rfl) hR.2⟩ rfl hl.1 rfl (Nat.le_of_ble_eq_true rfl) rfl dJ11_charAt_2 (fun H locs cells slots I => ?_)
  refine lv_aload_n hx hb dJ11_charAt_5 rfl (lv_at hl 0 rfl) ?_
  refine lv_iload_n hx hb dJ11_charAt_6 rfl (lv_at hl 1 rfl) ?_
  obtain ⟨v_3, ev_3, hf⟩ := ob hf
  refine cg_S (r := (some (.int v_3))) (σ' := σ) (rs := [.int v_3]) (rest := []) (As := [.ref x0, .int x1]) X I (mJ11_getChar hX ev_3) lvJ11_71 hdJ11_71 ⟨Nat.le_trans (Nat.le_of_ble_eq_true rfl) hR.1, Nat.le_trans (Nat.le_of_ble_eq_true rfl) hR.2⟩ rfl hl.1 rfl (Nat.le_of_ble_eq_true rfl) rfl dJ11_charAt_7 (fun H locs cells slots I => ?_)
  by_cases d_10 : ¬ ((v_3.toUInt32 % 65536).toInt32 = v_3)
  · exact nomatch (im d_10 hf)
  have c_10 := Decidable.not_not.mp d_10
  have hf := ip c_10 hf
  cases os hf
  exact r_nretC X I c_10 dJ11_charAt_10
theorem mJ11_charAt {E : EV} {l : Launch} {σ : St} {x0 : Nat} {x1 : Int32} {res : Int32} (hX : XK E) (hf : fJ11_charAt E.2.2.2.1 σ x0 x1 = some res) : CM E l yJ11_charAt (ws_ yJ11_charAt cJ11_charAt 2 (some .char)) 3 64 [.ref x0, .int x1] σ (some (.int res)) σ := by
  refine CM.of hX.1 (by decide) rfl rfl (Nat.le_of_ble_eq_true rfl) ?_
  intro p e s m below meth c X I ls hl
  exact wJ11_charAt_0 hX ⟨Nat.le_refl _, Nat.le_refl _⟩ X _ _ _ _ _ _ _ I hl hf
/-! java/lang/String.charAt(I)C imp=False fuel=False kap=True rt=I thr=False -/
theorem lvJ10_498 : GoodIn lw_all (va_wsS RJ10 498 yJ11_charAt (ws_ yJ11_charAt cJ11_charAt 2 (some .char))) := lw_S q829 q830 q130 q831
theorem hdJ10_498 : yJ11_charAt.cls ≠ "java/lang/invoke/MethodHandle" ∧ yJ11_charAt.cls ≠ "java/lang/invoke/VarHandle" ∧ (parseMethodDescriptor yJ11_charAt.desc).map (fun d => d.parameters.length) = some 2 := by decide +kernel
theorem lvJ10_495 : GoodIn lw_all (va_wsS RJ10 495 yJ15_charAt (ws_ yJ15_charAt cJ15_charAt 2 (some .char))) := lw_S q822 q823 q135 q824
theorem hdJ10_495 : yJ15_charAt.cls ≠ "java/lang/invoke/MethodHandle" ∧ yJ15_charAt.cls ≠ "java/lang/invoke/VarHandle" ∧ (parseMethodDescriptor yJ15_charAt.desc).map (fun d => d.parameters.length) = some 2 := by decide +kernel
def fJ10_charAt (κ : Nat → Nat) (σ : St) (x0 : Nat) (x1 : Int32) : Option Int32 := (isC σ x0 26).bind fun u_1 : Unit => (fJ10_isLatin1 κ σ x0).bind fun v_2 : Int32 => if v_2 = 0 then (gR σ x0 [(26, 0)]).bind fun v_4 : Option Nat => (v_4).bind fun a_5 : Nat => (fJ11_charAt κ σ a_5 x1).bind fun v_6 : Int32 => if (v_6.toUInt32 % 65536).toInt32 = v_6 then some v_6 else none else (gR σ x0 [(26, 0)]).bind fun v_8 : Option Nat => (v_8).bind fun a_9 : Nat => (fJ15_charAt κ σ a_9 x1).bind fun v_10 : Int32 => if (v_10.toUInt32 % 65536).toInt32 = v_10 then some v_10 else none
theorem wJ10_charAt_0 {E : EV} {l : Launch} {p : Program} {e : Env} {s : State} {m : MethodId} {args : Array Value} {below : List Frame} {meth : Method} {c : Code} {R : Room} {σ : St} {res : Int32} (hX : XK E) (hR : 4 ≤ R.frames ∧ 85 ≤ R.locals) (X : MX E p s m args meth c cJ10_charAt 2 (some .char) RJ10 "charAt") : ∀ (x0 : Nat) (x1 : Int32) (H : Heap) (locs : List Loc) (cells slots : Nat) (ls : Array Slot), WI E R s σ H locs cells slots → lv_has ls 2 [(0, .ref x0), (1, .int x1)] → fJ10_charAt E.2.2.2.1 σ x0 x1 = some res → W p l e R s m args below meth c H locs cells slots (MQ below (Qd E R.cells R.slots (some (.int res)) σ) args s R.cells R.slots (fr E)) (F0 m 0 ls []) := by
  intro x0 x1 H locs cells slots ls I hl hf
  obtain ⟨⟨hx, hb, hml, hown, hts⟩, -⟩ := id X
  unfold fJ10_charAt at hf
  refine lv_aload_n hx hb dJ10_charAt_0 rfl (lv_at hl 0 rfl) ?_
  obtain ⟨u_1, eu_1, hf⟩ := ob hf
  obtain ⟨v_2, ev_2, hf⟩ := ob hf
  refine cg_V (vw := (RJ10, TJ10, 4)) (ci := 26) (r := (some (.int v_2))) (σ' := σ) (rs := [.int v_2]) (rest := []) (As := []) X I eu_1 rfl (mJ10_isLatin1 hX ev_2) lvJ10_492 hdJ10_492 ⟨Nat.le_trans (Nat.le_of_ble_eq_true rfl) hR.1, Nat.le_trans (Nat.le_of_ble_eq_true rfl) hR.2⟩ rfl hl.1 rfl (Nat.le_of_ble_eq_true rfl) rfl dJ10_charAt_1 (fun H locs cells slots I => ?_)
  refine lv_if_eq (tgt := 16) hx hb dJ10_charAt_4 (by decide) (fun c_4 => ?_) (fun c_4 => ?_)
  · have hf := ip c_4 hf
    refine lv_aload_n hx hb dJ10_charAt_16 rfl (lv_at hl 0 rfl) ?_
    obtain ⟨v_4, ev_4, hf⟩ := ob hf
    refine g_get X I gfJ10_9 (gR_in ev_4) dJ10_charAt_17 ?_
    refine lv_iload_n hx hb dJ10_charAt_20 rfl (lv_at hl 1 rfl) ?_
    obtain ⟨a_5, ea_5, hga_5⟩ := ob hf
    have hla_5 := hl
    have Ia_5 := I
    subst ea_5
    have hf := hga_5
    have hl := hla_5
    have I := Ia_5
    obtain ⟨v_6, ev_6, hf⟩ := ob hf
    refine cg_S (r := (some (.int v_6))) (σ' := σ) (rs := [.int v_6]) (rest := []) (As := [.ref a_5, .int x1]) X I (mJ11_charAt hX ev_6) lvJ10_498 hdJ10_498 ⟨Nat.le_trans (Nat.le_of_ble_eq_true rfl) hR.1, Nat.le_trans (Nat.le_of_ble_eq_true rfl) hR.2⟩ rfl hl.1 rfl (Nat.le_of_ble_eq_true rfl) rfl dJ10_charAt_21 (fun H locs cells slots I => ?_)
    by_cases d_24 : ¬ ((v_6.toUInt32 % 65536).toInt32 = v_6)
    · exact nomatch (im d_24 hf)
    have c_24 := Decidable.not_not.mp d_24
    have hf := ip c_24 hf
    cases os hf
    exact r_nretC X I c_24 dJ10_charAt_24
  · have hf := im c_4 hf
    refine lv_aload_n hx hb dJ10_charAt_7 rfl (lv_at hl 0 rfl) ?_
    obtain ⟨v_8, ev_8, hf⟩ := ob hf
    refine g_get X I gfJ10_9 (gR_in ev_8) dJ10_charAt_8 ?_
    refine lv_iload_n hx hb dJ10_charAt_11 rfl (lv_at hl 1 rfl) ?_
    obtain ⟨a_9, ea_9, hga_9⟩ := ob hf
    have hla_9 := hl
    have Ia_9 := I
    subst ea_9
    have hf := hga_9
    have hl := hla_9
    have I := Ia_9
    obtain ⟨v_10, ev_10, hf⟩ := ob hf
    refine cg_S (r := (some (.int v_10))) (σ' := σ) (rs := [.int v_10]) (rest := []) (As := [.ref a_9, .int x1]) X I (mJ15_charAt hX ev_10) lvJ10_495 hdJ10_495 ⟨Nat.le_trans (Nat.le_of_ble_eq_true rfl) hR.1, Nat.le_trans (Nat.le_of_ble_eq_true rfl) hR.2⟩ rfl hl.1 rfl (Nat.le_of_ble_eq_true rfl) rfl dJ10_charAt_12 (fun H locs cells slots I => ?_)
    by_cases d_15 : ¬ ((v_10.toUInt32 % 65536).toInt32 = v_10)
    · exact nomatch (im d_15 hf)
    have c_15 := Decidable.not_not.mp d_15
    have hf := ip c_15 hf
    cases os hf
    exact r_nretC X I c_15 dJ10_charAt_15
theorem mJ10_charAt {E : EV} {l : Launch} {σ : St} {x0 : Nat} {x1 : Int32} {res : Int32} (hX : XK E) (hf : fJ10_charAt E.2.2.2.1 σ x0 x1 = some res) : CM E l yJ10_charAt (ws_ yJ10_charAt cJ10_charAt 2 (some .char)) 4 85 [.ref x0, .int x1] σ (some (.int res)) σ := by
  refine CM.of hX.1 (by decide) rfl rfl (Nat.le_of_ble_eq_true rfl) ?_
  intro p e s m below meth c X I ls hl
  exact wJ10_charAt_0 hX ⟨Nat.le_refl _, Nat.le_refl _⟩ X _ _ _ _ _ _ _ I hl hf
/-! SharedTaxis.formattedByte(I)I imp=False fuel=False kap=True rt=I thr=False -/
theorem lvX1_525 : GoodIn lw_all (wsV RX1 525 RJ10 yJ10_charAt (ws_ yJ10_charAt cJ10_charAt 2 (some .char))) := lw_V q814 q815 q816 q129 q817
theorem hdX1_525 : yJ10_charAt.cls = RJ10 ∧ yJ10_charAt.cls ≠ "java/lang/invoke/MethodHandle" ∧ yJ10_charAt.cls ≠ "java/lang/invoke/VarHandle" ∧ (parseMethodDescriptor yJ10_charAt.desc).map (fun d => d.parameters.length) = some 1 := by decide +kernel
def fX1_formattedByte (κ : Nat → Nat) (σ : St) (x0 : Nat) (x1 : Int32) : Option Int32 := (gR σ x0 [(0, 6)]).bind fun v_1 : Option Nat => (v_1).bind fun a_2 : Nat => (isC σ a_2 26).bind fun u_3 : Unit => (fJ10_length κ σ a_2).bind fun v_4 : Int32 => (fX1_inRange σ (x1.toInt64) (0 : Int64) ((v_4 - (1 : Int32)).toInt64)).bind fun v_6 : Int32 => if v_6 = 0 then some (-1 : Int32) else (gR σ x0 [(0, 6)]).bind fun v_8 : Option Nat => (v_8).bind fun a_9 : Nat => (isC σ a_9 26).bind fun u_10 : Unit => (fJ10_charAt κ σ a_9 x1).bind fun v_11 : Int32 => some v_11
theorem wX1_formattedByte_0 {E : EV} {l : Launch} {p : Program} {e : Env} {s : State} {m : MethodId} {args : Array Value} {below : List Frame} {meth : Method} {c : Code} {R : Room} {σ : St} {res : Int32} (hX : XK E) (hR : 5 ≤ R.frames ∧ 106 ≤ R.locals) (X : MX E p s m args meth c cX1_formattedByte 2 (some .int) RX1 "formattedByte") : ∀ (x0 : Nat) (x1 : Int32) (H : Heap) (locs : List Loc) (cells slots : Nat) (ls : Array Slot), WI E R s σ H locs cells slots → lv_has ls 2 [(0, .ref x0), (1, .int x1)] → fX1_formattedByte E.2.2.2.1 σ x0 x1 = some res → W p l e R s m args below meth c H locs cells slots (MQ below (Qd E R.cells R.slots (some (.int res)) σ) args s R.cells R.slots (fr E)) (F0 m 0 ls []) := by
  intro x0 x1 H locs cells slots ls I hl hf
  obtain ⟨⟨hx, hb, hml, hown, hts⟩, -⟩ := id X
  unfold fX1_formattedByte at hf
  refine lv_iload_n hx hb dX1_formattedByte_0 rfl (lv_at hl 1 rfl) ?_
  refine lv_i2l hx hb dX1_formattedByte_1 rfl ?_
  refine lv_lconst (v := 0) hx hb dX1_formattedByte_2 (by decide) ?_
  refine lv_aload_n hx hb dX1_formattedByte_3 rfl (lv_at hl 0 rfl) ?_
  obtain ⟨v_1, ev_1, hf⟩ := ob hf
  refine g_get X I gfX1_99 (gR_in ev_1) dX1_formattedByte_4 ?_
  obtain ⟨a_2, ea_2, hga_2⟩ := ob hf
  have hla_2 := hl
  have Ia_2 := I
  subst ea_2
  have hf := hga_2
  have hl := hla_2
  have I := Ia_2
  obtain ⟨u_3, eu_3, hf⟩ := ob hf
  obtain ⟨v_4, ev_4, hf⟩ := ob hf
  refine cg_V (vw := (RJ10, TJ10, 4)) (ci := 26) (r := (some (.int v_4))) (σ' := σ) (rs := [.int v_4, .long (0 : Int64), .long (x1.toInt64)]) (rest := [.long (0 : Int64), .long (x1.toInt64)]) (As := []) X I eu_3 rfl (mJ10_length hX ev_4) lvX1_524 hdX1_524 ⟨Nat.le_trans (Nat.le_of_ble_eq_true rfl) hR.1, Nat.le_trans (Nat.le_of_ble_eq_true rfl) hR.2⟩ rfl hl.1 rfl (Nat.le_of_ble_eq_true rfl) rfl dX1_formattedByte_7 (fun H locs cells slots I => ?_)
  refine lv_iconst (v := 1) hx hb dX1_formattedByte_10 (by decide) ?_
  refine lv_isub hx hb dX1_formattedByte_11 ?_
  refine lv_i2l hx hb dX1_formattedByte_12 rfl ?_
  obtain ⟨v_6, ev_6, hf⟩ := ob hf
  refine cg_S (r := (some (.int v_6))) (σ' := σ) (rs := [.int v_6]) (rest := []) (As := [.long (x1.toInt64), .long (0 : Int64), .long ((v_4 - (1 : Int32)).toInt64)]) X I (mX1_inRange hX ev_6) lvX1_125 hdX1_125 ⟨Nat.le_trans (Nat.le_of_ble_eq_true rfl) hR.1, Nat.le_trans (Nat.le_of_ble_eq_true rfl) hR.2⟩ rfl hl.1 rfl (Nat.le_of_ble_eq_true rfl) rfl dX1_formattedByte_13 (fun H locs cells slots I => ?_)
  refine lv_if_eq (tgt := 30) hx hb dX1_formattedByte_16 (by decide) (fun c_16 => ?_) (fun c_16 => ?_)
  · have hf := ip c_16 hf
    refine lv_iconst (v := (-1)) hx hb dX1_formattedByte_30 (by decide) ?_
    cases os hf
    exact r_iret X I dX1_formattedByte_31
  · have hf := im c_16 hf
    refine lv_aload_n hx hb dX1_formattedByte_19 rfl (lv_at hl 0 rfl) ?_
    obtain ⟨v_8, ev_8, hf⟩ := ob hf
    refine g_get X I gfX1_99 (gR_in ev_8) dX1_formattedByte_20 ?_
    refine lv_iload_n hx hb dX1_formattedByte_23 rfl (lv_at hl 1 rfl) ?_
    obtain ⟨a_9, ea_9, hga_9⟩ := ob hf
    have hla_9 := hl
    have Ia_9 := I
    subst ea_9
    have hf := hga_9
    have hl := hla_9
    have I := Ia_9
    obtain ⟨u_10, eu_10, hf⟩ := ob hf
    obtain ⟨v_11, ev_11, hf⟩ := ob hf
    refine cg_V (vw := (RJ10, TJ10, 4)) (ci := 26) (r := (some (.int v_11))) (σ' := σ) (rs := [.int v_11]) (rest := []) (As := [.int x1]) X I eu_10 rfl (mJ10_charAt hX ev_11) lvX1_525 hdX1_525 ⟨Nat.le_trans (Nat.le_of_ble_eq_true rfl) hR.1, Nat.le_trans (Nat.le_of_ble_eq_true rfl) hR.2⟩ rfl hl.1 rfl (Nat.le_of_ble_eq_true rfl) rfl dX1_formattedByte_24 (fun H locs cells slots I => ?_)
    refine lv_goto (tgt := 31) hx hb dX1_formattedByte_27 (by decide) ?_
    cases os hf
    exact r_iret X I dX1_formattedByte_31
theorem mX1_formattedByte {E : EV} {l : Launch} {σ : St} {x0 : Nat} {x1 : Int32} {res : Int32} (hX : XK E) (hf : fX1_formattedByte E.2.2.2.1 σ x0 x1 = some res) : CM E l yX1_formattedByte (ws_ yX1_formattedByte cX1_formattedByte 2 (some .int)) 5 106 [.ref x0, .int x1] σ (some (.int res)) σ := by
  refine CM.of hX.1 (by decide) rfl rfl (Nat.le_of_ble_eq_true rfl) ?_
  intro p e s m below meth c X I ls hl
  exact wX1_formattedByte_0 hX ⟨Nat.le_refl _, Nat.le_refl _⟩ X _ _ _ _ _ _ _ I hl hf
/-! SharedTaxis.undoCount()I imp=False fuel=False kap=False rt=I thr=False -/
def fX1_undoCount (σ : St) (x0 : Nat) : Option Int32 := (gR σ x0 [(0, 5)]).bind fun v_1 : Option Nat => (v_1).bind fun a_2 : Nat => (isC σ a_2 22).bind fun u_3 : Unit => (fJ3_size σ a_2).bind fun v_4 : Int32 => some v_4
theorem wX1_undoCount_0 {E : EV} {l : Launch} {p : Program} {e : Env} {s : State} {m : MethodId} {args : Array Value} {below : List Frame} {meth : Method} {c : Code} {R : Room} {σ : St} {res : Int32} (hX : XK E) (hR : 2 ≤ R.frames ∧ 42 ≤ R.locals) (X : MX E p s m args meth c cX1_undoCount 1 (some .int) RX1 "undoCount") : ∀ (x0 : Nat) (H : Heap) (locs : List Loc) (cells slots : Nat) (ls : Array Slot), WI E R s σ H locs cells slots → lv_has ls 1 [(0, .ref x0)] → fX1_undoCount σ x0 = some res → W p l e R s m args below meth c H locs cells slots (MQ below (Qd E R.cells R.slots (some (.int res)) σ) args s R.cells R.slots (fr E)) (F0 m 0 ls []) := by
  intro x0 H locs cells slots ls I hl hf
  obtain ⟨⟨hx, hb, hml, hown, hts⟩, -⟩ := id X
  unfold fX1_undoCount at hf
  refine lv_aload_n hx hb dX1_undoCount_0 rfl (lv_at hl 0 rfl) ?_
  obtain ⟨v_1, ev_1, hf⟩ := ob hf
  refine g_get X I gfX1_93 (gR_in ev_1) dX1_undoCount_1 ?_
  obtain ⟨a_2, ea_2, hga_2⟩ := ob hf
  have hla_2 := hl
  have Ia_2 := I
  subst ea_2
  have hf := hga_2
  have hl := hla_2
  have I := Ia_2
  obtain ⟨u_3, eu_3, hf⟩ := ob hf
  obtain ⟨v_4, ev_4, hf⟩ := ob hf
  refine cg_V (vw := (RJ3, TJ3, 3)) (ci := 22) (r := (some (.int v_4))) (σ' := σ) (rs := [.int v_4]) (rest := []) (As := []) X I eu_3 rfl (mJ3_size hX ev_4) lvX1_103 hdX1_103 ⟨Nat.le_trans (Nat.le_of_ble_eq_true rfl) hR.1, Nat.le_trans (Nat.le_of_ble_eq_true rfl) hR.2⟩ rfl hl.1 rfl (Nat.le_of_ble_eq_true rfl) rfl dX1_undoCount_4 (fun H locs cells slots I => ?_)
  cases os hf
  exact r_iret X I dX1_undoCount_7
theorem mX1_undoCount {E : EV} {l : Launch} {σ : St} {x0 : Nat} {res : Int32} (hX : XK E) (hf : fX1_undoCount σ x0 = some res) : CM E l yX1_undoCount (ws_ yX1_undoCount cX1_undoCount 1 (some .int)) 2 42 [.ref x0] σ (some (.int res)) σ := by
  refine CM.of hX.1 (by decide) rfl rfl (Nat.le_of_ble_eq_true rfl) ?_
  intro p e s m below meth c X I ls hl
  exact wX1_undoCount_0 hX ⟨Nat.le_refl _, Nat.le_refl _⟩ X _ _ _ _ _ _ I hl hf
/-! java/util/ArrayDeque.isEmpty()Z imp=False fuel=False kap=False rt=I thr=False -/
def fJ3_isEmpty (σ : St) (x0 : Nat) : Option Int32 := (gI σ x0 [(22, 1)]).bind fun v_1 : Int32 => (gI σ x0 [(22, 2)]).bind fun v_2 : Int32 => if v_1 = v_2 then some (1 : Int32) else some (0 : Int32)
theorem wJ3_isEmpty_0 {E : EV} {l : Launch} {p : Program} {e : Env} {s : State} {m : MethodId} {args : Array Value} {below : List Frame} {meth : Method} {c : Code} {R : Room} {σ : St} {res : Int32} (hX : XK E) (hR : 0 ≤ R.frames ∧ 0 ≤ R.locals) (X : MX E p s m args meth c cJ3_isEmpty 1 (some .boolean) RJ3 "isEmpty") : ∀ (x0 : Nat) (H : Heap) (locs : List Loc) (cells slots : Nat) (ls : Array Slot), WI E R s σ H locs cells slots → lv_has ls 1 [(0, .ref x0)] → fJ3_isEmpty σ x0 = some res → W p l e R s m args below meth c H locs cells slots (MQ below (Qd E R.cells R.slots (some (.int res)) σ) args s R.cells R.slots (fr E)) (F0 m 0 ls []) := by
  intro x0 H locs cells slots ls I hl hf
  obtain ⟨⟨hx, hb, hml, hown, hts⟩, -⟩ := id X
  unfold fJ3_isEmpty at hf
  refine lv_aload_n hx hb dJ3_isEmpty_0 rfl (lv_at hl 0 rfl) ?_
  obtain ⟨v_1, ev_1, hf⟩ := ob hf
  refine g_get X I gfJ3_24 (gI_in ev_1) dJ3_isEmpty_1 ?_
  refine lv_aload_n hx hb dJ3_isEmpty_4 rfl (lv_at hl 0 rfl) ?_
  obtain ⟨v_2, ev_2, hf⟩ := ob hf
  refine g_get X I gfJ3_20 (gI_in ev_2) dJ3_isEmpty_5 ?_
  refine lv_icmp_ne (tgt := 15) hx hb dJ3_isEmpty_8 (by decide) (fun c_8 => ?_) (fun c_8 => ?_)
  · have hf := im c_8 hf
    refine lv_iconst (v := 0) hx hb dJ3_isEmpty_15 (by decide) ?_
    cases os hf
    exact r_zret X I (Or.inl rfl) dJ3_isEmpty_16
  · have hf := ip c_8 hf
    refine lv_iconst (v := 1) hx hb dJ3_isEmpty_11 (by decide) ?_
    refine lv_goto (tgt := 16) hx hb dJ3_isEmpty_12 (by decide) ?_
    cases os hf
    exact r_zret X I (Or.inr rfl) dJ3_isEmpty_16
theorem mJ3_isEmpty {E : EV} {l : Launch} {σ : St} {x0 : Nat} {res : Int32} (hX : XK E) (hf : fJ3_isEmpty σ x0 = some res) : CM E l yJ3_isEmpty (ws_ yJ3_isEmpty cJ3_isEmpty 1 (some .boolean)) 0 0 [.ref x0] σ (some (.int res)) σ := by
  refine CM.of hX.1 (by decide) rfl rfl (Nat.le_of_ble_eq_true rfl) ?_
  intro p e s m below meth c X I ls hl
  exact wJ3_isEmpty_0 hX ⟨Nat.le_refl _, Nat.le_refl _⟩ X _ _ _ _ _ _ I hl hf
/-! java/util/ArrayDeque.dec(II)I imp=False fuel=False kap=False rt=I thr=False -/
def fJ3_dec (σ : St) (x0 : Int32) (x1 : Int32) : Option Int32 := lt (x0 + (-1)) fun x0_1 : Int32 => if 0 ≤ x0_1 then some x0_1 else lt (x1 - (1 : Int32)) fun x0_2 : Int32 => some x0_2
theorem wJ3_dec_0 {E : EV} {l : Launch} {p : Program} {e : Env} {s : State} {m : MethodId} {args : Array Value} {below : List Frame} {meth : Method} {c : Code} {R : Room} {σ : St} {res : Int32} (hX : XK E) (hR : 0 ≤ R.frames ∧ 0 ≤ R.locals) (X : MX E p s m args meth c cJ3_dec 2 (some .int) RJ3 "dec") : ∀ (x0 : Int32) (x1 : Int32) (H : Heap) (locs : List Loc) (cells slots : Nat) (ls : Array Slot), WI E R s σ H locs cells slots → lv_has ls 2 [(0, .int x0), (1, .int x1)] → fJ3_dec σ x0 x1 = some res → W p l e R s m args below meth c H locs cells slots (MQ below (Qd E R.cells R.slots (some (.int res)) σ) args s R.cells R.slots (fr E)) (F0 m 0 ls []) := by
  intro x0 x1 H locs cells slots ls I hl hf
  obtain ⟨⟨hx, hb, hml, hown, hts⟩, -⟩ := id X
  unfold fJ3_dec at hf
  obtain ⟨x0_1, ex0_1, hf⟩ := ol hf
  refine lv_iinc (v := x0_1) (lv' := [(0, .int x0_1), (1, .int x1)]) hx hb dJ3_dec_0 hl (k := 0) rfl ex0_1 (by decide) rfl (fun ls hl => ?_)
  refine lv_iload_n hx hb dJ3_dec_3 rfl (lv_at hl 0 rfl) ?_
  refine lv_if_ge (tgt := 11) hx hb dJ3_dec_4 (by decide) (fun c_4 => ?_) (fun c_4 => ?_)
  · have hf := ip c_4 hf
    refine lv_iload_n hx hb dJ3_dec_11 rfl (lv_at hl 0 rfl) ?_
    cases os hf
    exact r_iret X I dJ3_dec_12
  · have hf := im c_4 hf
    refine lv_iload_n hx hb dJ3_dec_7 rfl (lv_at hl 1 rfl) ?_
    refine lv_iconst (v := 1) hx hb dJ3_dec_8 (by decide) ?_
    refine lv_isub hx hb dJ3_dec_9 ?_
    obtain ⟨x0_2, ex0_2, hf⟩ := ol hf
    refine nm_i ex0_2 ?_
    refine lv_istore_n (lv' := [(0, .int x0_2), (1, .int x1)]) hx hb dJ3_dec_10 rfl hl (by decide) rfl (fun ls hl => ?_)
    refine lv_iload_n hx hb dJ3_dec_11 rfl (lv_at hl 0 rfl) ?_
    cases os hf
    exact r_iret X I dJ3_dec_12
theorem mJ3_dec {E : EV} {l : Launch} {σ : St} {x0 : Int32} {x1 : Int32} {res : Int32} (hX : XK E) (hf : fJ3_dec σ x0 x1 = some res) : CM E l yJ3_dec (ws_ yJ3_dec cJ3_dec 2 (some .int)) 0 0 [.int x0, .int x1] σ (some (.int res)) σ := by
  refine CM.of hX.1 (by decide) rfl rfl (Nat.le_of_ble_eq_true rfl) ?_
  intro p e s m below meth c X I ls hl
  exact wJ3_dec_0 hX ⟨Nat.le_refl _, Nat.le_refl _⟩ X _ _ _ _ _ _ _ I hl hf
/-! java/util/ArrayDeque.pollLast()Ljava/lang/Object; imp=True fuel=False kap=False rt=O thr=False -/
theorem lvJ3_68 : GoodIn lw_all (va_wsS RJ3 68 yJ3_dec (ws_ yJ3_dec cJ3_dec 2 (some .int))) := lw_S q863 q864 q119 q865
theorem hdJ3_68 : yJ3_dec.cls ≠ "java/lang/invoke/MethodHandle" ∧ yJ3_dec.cls ≠ "java/lang/invoke/VarHandle" ∧ (parseMethodDescriptor yJ3_dec.desc).map (fun d => d.parameters.length) = some 2 := by decide +kernel
def fJ3_pollLast (σ : St) (x0 : Nat) : Option ((Option Nat) × St) := (gR σ x0 [(22, 0)]).bind fun v_1 : Option Nat => (gI σ x0 [(22, 2)]).bind fun v_2 : Int32 => (v_1).bind fun a_3 : Nat => (aL σ a_3).bind fun v_4 : Int32 => (fJ3_dec σ v_2 v_4).bind fun v_5 : Int32 => (fJ3_elementAt σ a_3 v_5).bind fun v_7 : Option Nat => oc v_7 (some ((none), σ)) fun a_9 => (pV σ x0 [(22, 2)] (.int v_5)).bind fun σ_10 : St => (sR σ_10 a_3 3 v_5 none).bind fun σ_11 : St => some (((some a_9)), σ_11)
theorem wJ3_pollLast_0 {E : EV} {l : Launch} {p : Program} {e : Env} {s : State} {m : MethodId} {args : Array Value} {below : List Frame} {meth : Method} {c : Code} {R : Room} {res : ((Option Nat) × St)} (hX : XK E) (hR : 1 ≤ R.frames ∧ 21 ≤ R.locals) (X : MX E p s m args meth c cJ3_pollLast 4 (some (.object "java/lang/Object")) RJ3 "pollLast") : ∀ (x0 : Nat) (σ : St) (H : Heap) (locs : List Loc) (cells slots : Nat) (ls : Array Slot), WI E R s σ H locs cells slots → lv_has ls 4 [(0, .ref x0)] → fJ3_pollLast σ x0 = some res → W p l e R s m args below meth c H locs cells slots (MQ below (Qd E R.cells R.slots (some (va_rf res.1)) res.2) args s R.cells R.slots (fr E)) (F0 m 0 ls []) := by
  intro x0 σ H locs cells slots ls I hl hf
  obtain ⟨⟨hx, hb, hml, hown, hts⟩, -⟩ := id X
  unfold fJ3_pollLast at hf
  refine lv_aload_n hx hb dJ3_pollLast_0 rfl (lv_at hl 0 rfl) ?_
  obtain ⟨v_1, ev_1, hf⟩ := ob hf
  refine g_get X I gfJ3_3 (gR_in ev_1) dJ3_pollLast_1 ?_
  refine lv_dup hx hb dJ3_pollLast_4 (rf_cat _) ?_
  refine lo_astore_n (x := v_1) (lv' := [(1, va_rf v_1), (0, .ref x0)]) hx hb dJ3_pollLast_5 rfl hl (by decide) rfl (fun ls hl => ?_)
  refine lv_aload_n hx hb dJ3_pollLast_6 rfl (lv_at hl 1 rfl) ?_
  obtain ⟨v_2, ev_2, hf⟩ := ob hf
  refine g_get X I gfJ3_20 (gI_in ev_2) dJ3_pollLast_7 ?_
  refine lo_aload_n (x := v_1) hx hb dJ3_pollLast_10 rfl (lv_at hl 0 rfl) ?_
  obtain ⟨a_3, ea_3, hga_3⟩ := ob hf
  have hla_3 := hl
  have Ia_3 := I
  subst ea_3
  have hf := hga_3
  have hl := hla_3
  have I := Ia_3
  obtain ⟨v_4, ev_4, hf⟩ := ob hf
  refine g_alen X I ev_4 dJ3_pollLast_11 ?_
  obtain ⟨v_5, ev_5, hf⟩ := ob hf
  refine cg_S (r := (some (.int v_5))) (σ' := σ) (rs := [.int v_5, .ref a_3]) (rest := [.ref a_3]) (As := [.int v_2, .int v_4]) X I (mJ3_dec hX ev_5) lvJ3_68 hdJ3_68 ⟨Nat.le_trans (Nat.le_of_ble_eq_true rfl) hR.1, Nat.le_trans (Nat.le_of_ble_eq_true rfl) hR.2⟩ rfl hl.1 rfl (Nat.le_of_ble_eq_true rfl) rfl dJ3_pollLast_12 (fun H locs cells slots I => ?_)
  refine lv_dup hx hb dJ3_pollLast_15 rfl ?_
  refine lv_istore_n (lv' := [(2, .int v_5), (1, .ref a_3), (0, .ref x0)]) hx hb dJ3_pollLast_16 rfl hl (by decide) rfl (fun ls hl => ?_)
  obtain ⟨v_7, ev_7, hf⟩ := ob hf
  refine cg_S (r := (some (va_rf v_7))) (σ' := σ) (rs := [va_rf v_7]) (rest := []) (As := [.ref a_3, .int v_5]) X I (mJ3_elementAt hX ev_7) lvJ3_103 hdJ3_103 ⟨Nat.le_trans (Nat.le_of_ble_eq_true rfl) hR.1, Nat.le_trans (Nat.le_of_ble_eq_true rfl) hR.2⟩ rfl hl.1 rfl (Nat.le_of_ble_eq_true rfl) rfl dJ3_pollLast_17 (fun H locs cells slots I => ?_)
  refine lo_astore_n (x := v_7) (lv' := [(3, va_rf v_7), (2, .int v_5), (1, .ref a_3), (0, .ref x0)]) hx hb dJ3_pollLast_20 rfl hl (by decide) rfl (fun ls hl => ?_)
  refine lo_aload_n (x := v_7) hx hb dJ3_pollLast_21 rfl (lv_at hl 0 rfl) ?_
  have hga_9 := hf
  have hla_9 := hl
  have Ia_9 := I
  rcases v_7 with _ | a_9
  · have hf := oc_n hga_9
    have hl := hla_9
    have I := Ia_9
    refine lv_ifnullN (tgt := 34) hx hb dJ3_pollLast_22 (by decide) ?_
    refine lv_aload_nN hx hb dJ3_pollLast_34 rfl (lv_at hl 0 rfl) ?_
    cases os hf
    exact r_aret X I (Or.inl ⟨_, rfl⟩) (rf_or _) dJ3_pollLast_35
  · have hf := oc_s hga_9
    have hl := hla_9
    have I := Ia_9
    refine lv_ifnull hx hb dJ3_pollLast_22 ?_
    refine lv_aload_n hx hb dJ3_pollLast_25 rfl (lv_at hl 2 rfl) ?_
    refine lv_aload_n hx hb dJ3_pollLast_26 rfl (lv_at hl 3 rfl) ?_
    refine lv_iload_n hx hb dJ3_pollLast_27 rfl (lv_at hl 1 rfl) ?_
    refine lv_dup_x1 hx hb dJ3_pollLast_28 rfl rfl ?_
    obtain ⟨σ_10, eσ_10, hf⟩ := ob hf
    refine g_put X I pfJ3_20 rfl rfl eσ_10 dJ3_pollLast_29 (fun H locs I => ?_)
    refine lv_null hx hb dJ3_pollLast_32 ?_
    obtain ⟨σ_11, eσ_11, hf⟩ := ob hf
    refine g_aast (v := none) hX X I (by decide) eσ_11 dJ3_pollLast_33 (fun H locs I => ?_)
    refine lv_aload_n hx hb dJ3_pollLast_34 rfl (lv_at hl 0 rfl) ?_
    cases os hf
    exact r_aret X I (Or.inl ⟨_, rfl⟩) (rf_or _) dJ3_pollLast_35
theorem mJ3_pollLast {E : EV} {l : Launch} {σ : St} {x0 : Nat} {res : ((Option Nat) × St)} (hX : XK E) (hf : fJ3_pollLast σ x0 = some res) : CM E l yJ3_pollLast (ws_ yJ3_pollLast cJ3_pollLast 4 (some (.object "java/lang/Object"))) 1 21 [.ref x0] σ (some (va_rf res.1)) res.2 := by
  refine CM.of hX.1 (by decide) rfl rfl (Nat.le_of_ble_eq_true rfl) ?_
  intro p e s m below meth c X I ls hl
  exact wJ3_pollLast_0 hX ⟨Nat.le_refl _, Nat.le_refl _⟩ X _ _ _ _ _ _ _ I hl hf
/-! java/util/ArrayDeque.removeLast()Ljava/lang/Object; imp=True fuel=False kap=False rt=O thr=False -/
theorem lvJ3_100 : GoodIn lw_all (wsV RJ3 100 RJ3 yJ3_pollLast (ws_ yJ3_pollLast cJ3_pollLast 4 (some (.object "java/lang/Object")))) := lw_V q859 q860 q861 q119 q862
theorem hdJ3_100 : yJ3_pollLast.cls = RJ3 ∧ yJ3_pollLast.cls ≠ "java/lang/invoke/MethodHandle" ∧ yJ3_pollLast.cls ≠ "java/lang/invoke/VarHandle" ∧ (parseMethodDescriptor yJ3_pollLast.desc).map (fun d => d.parameters.length) = some 0 := by decide +kernel
def fJ3_removeLast (σ : St) (x0 : Nat) : Option ((Option Nat) × St) := (isC σ x0 22).bind fun u_1 : Unit => (fJ3_pollLast σ x0).bind fun (v_2, σ_3) => oc v_2 (none) fun a_4 => some (((some a_4)), σ_3)
theorem wJ3_removeLast_0 {E : EV} {l : Launch} {p : Program} {e : Env} {s : State} {m : MethodId} {args : Array Value} {below : List Frame} {meth : Method} {c : Code} {R : Room} {res : ((Option Nat) × St)} (hX : XK E) (hR : 2 ≤ R.frames ∧ 44 ≤ R.locals) (X : MX E p s m args meth c cJ3_removeLast 2 (some (.object "java/lang/Object")) RJ3 "removeLast") : ∀ (x0 : Nat) (σ : St) (H : Heap) (locs : List Loc) (cells slots : Nat) (ls : Array Slot), WI E R s σ H locs cells slots → lv_has ls 2 [(0, .ref x0)] → fJ3_removeLast σ x0 = some res → W p l e R s m args below meth c H locs cells slots (MQ below (Qd E R.cells R.slots (some (va_rf res.1)) res.2) args s R.cells R.slots (fr E)) (F0 m 0 ls []) := by
  intro x0 σ H locs cells slots ls I hl hf
  obtain ⟨⟨hx, hb, hml, hown, hts⟩, -⟩ := id X
  unfold fJ3_removeLast at hf
  refine lv_aload_n hx hb dJ3_removeLast_0 rfl (lv_at hl 0 rfl) ?_
  obtain ⟨u_1, eu_1, hf⟩ := ob hf
  obtain ⟨⟨v_2, σ_3⟩, ev_2, hf⟩ := ob hf
  refine cg_V (vw := (RJ3, TJ3, 3)) (ci := 22) (r := (some (va_rf v_2))) (σ' := σ_3) (rs := [va_rf v_2]) (rest := []) (As := []) X I eu_1 rfl (mJ3_pollLast hX ev_2) lvJ3_100 hdJ3_100 ⟨Nat.le_trans (Nat.le_of_ble_eq_true rfl) hR.1, Nat.le_trans (Nat.le_of_ble_eq_true rfl) hR.2⟩ rfl hl.1 rfl (Nat.le_of_ble_eq_true rfl) rfl dJ3_removeLast_1 (fun H locs cells slots I => ?_)
  refine lo_astore_n (x := v_2) (lv' := [(1, va_rf v_2), (0, .ref x0)]) hx hb dJ3_removeLast_4 rfl hl (by decide) rfl (fun ls hl => ?_)
  refine lo_aload_n (x := v_2) hx hb dJ3_removeLast_5 rfl (lv_at hl 0 rfl) ?_
  have hga_4 := hf
  have hla_4 := hl
  have Ia_4 := I
  rcases v_2 with _ | a_4
  · have hf := oc_n hga_4
    have hl := hla_4
    have I := Ia_4
    refine lv_ifnonnullN hx hb dJ3_removeLast_6 ?_
    exact nomatch hf
  · have hf := oc_s hga_4
    have hl := hla_4
    have I := Ia_4
    refine lv_ifnonnull (tgt := 17) hx hb dJ3_removeLast_6 (by decide) ?_
    refine lv_aload_n hx hb dJ3_removeLast_17 rfl (lv_at hl 0 rfl) ?_
    cases os hf
    exact r_aret X I (Or.inl ⟨_, rfl⟩) (rf_or _) dJ3_removeLast_18
theorem mJ3_removeLast {E : EV} {l : Launch} {σ : St} {x0 : Nat} {res : ((Option Nat) × St)} (hX : XK E) (hf : fJ3_removeLast σ x0 = some res) : CM E l yJ3_removeLast (ws_ yJ3_removeLast cJ3_removeLast 2 (some (.object "java/lang/Object"))) 2 44 [.ref x0] σ (some (va_rf res.1)) res.2 := by
  refine CM.of hX.1 (by decide) rfl rfl (Nat.le_of_ble_eq_true rfl) ?_
  intro p e s m below meth c X I ls hl
  exact wJ3_removeLast_0 hX ⟨Nat.le_refl _, Nat.le_refl _⟩ X _ _ _ _ _ _ _ I hl hf
/-! SharedTaxis.undo()I imp=True fuel=False kap=False rt=I thr=False -/
theorem lvX1_529 : GoodIn lw_all (wsV RX1 529 RJ3 yJ3_isEmpty (ws_ yJ3_isEmpty cJ3_isEmpty 1 (some .boolean))) := lw_V q851 q852 q853 q119 q854
theorem hdX1_529 : yJ3_isEmpty.cls = RJ3 ∧ yJ3_isEmpty.cls ≠ "java/lang/invoke/MethodHandle" ∧ yJ3_isEmpty.cls ≠ "java/lang/invoke/VarHandle" ∧ (parseMethodDescriptor yJ3_isEmpty.desc).map (fun d => d.parameters.length) = some 0 := by decide +kernel
theorem lvX1_530 : GoodIn lw_all (wsV RX1 530 RJ3 yJ3_removeLast (ws_ yJ3_removeLast cJ3_removeLast 2 (some (.object "java/lang/Object")))) := lw_V q855 q856 q857 q119 q858
theorem hdX1_530 : yJ3_removeLast.cls = RJ3 ∧ yJ3_removeLast.cls ≠ "java/lang/invoke/MethodHandle" ∧ yJ3_removeLast.cls ≠ "java/lang/invoke/VarHandle" ∧ (parseMethodDescriptor yJ3_removeLast.desc).map (fun d => d.parameters.length) = some 0 := by decide +kernel
def fX1_undo (σ : St) (x0 : Nat) : Option (Int32 × St) := (gR σ x0 [(0, 5)]).bind fun v_1 : Option Nat => (v_1).bind fun a_2 : Nat => (isC σ a_2 22).bind fun u_3 : Unit => (fJ3_isEmpty σ a_2).bind fun v_4 : Int32 => if v_4 = 0 then (gR σ x0 [(0, 5)]).bind fun v_6 : Option Nat => (v_6).bind fun a_7 : Nat => (isC σ a_7 22).bind fun u_8 : Unit => (fJ3_removeLast σ a_7).bind fun (v_9, σ_10) => (v_9).bind fun a_11 : Nat => (isC σ_10 a_11 1).bind fun u_12 : Unit => (pV σ_10 x0 [(0, 3)] (.ref a_11)).bind fun σ_13 : St => (gR σ_13 x0 [(0, 5)]).bind fun v_14 : Option Nat => (v_14).bind fun a_15 : Nat => (isC σ_13 a_15 22).bind fun u_16 : Unit => (fJ3_size σ_13 a_15).bind fun v_17 : Int32 => some (v_17, σ_13) else some ((-1 : Int32), σ)
theorem wX1_undo_0 {E : EV} {l : Launch} {p : Program} {e : Env} {s : State} {m : MethodId} {args : Array Value} {below : List Frame} {meth : Method} {c : Code} {R : Room} {res : (Int32 × St)} (hX : XK E) (hR : 3 ≤ R.frames ∧ 65 ≤ R.locals) (X : MX E p s m args meth c cX1_undo 1 (some .int) RX1 "undo") : ∀ (x0 : Nat) (σ : St) (H : Heap) (locs : List Loc) (cells slots : Nat) (ls : Array Slot), WI E R s σ H locs cells slots → lv_has ls 1 [(0, .ref x0)] → fX1_undo σ x0 = some res → W p l e R s m args below meth c H locs cells slots (MQ below (Qd E R.cells R.slots (some (.int res.1)) res.2) args s R.cells R.slots (fr E)) (F0 m 0 ls []) := by
  intro x0 σ H locs cells slots ls I hl hf
  obtain ⟨⟨hx, hb, hml, hown, hts⟩, -⟩ := id X
  unfold fX1_undo at hf
  refine lv_aload_n hx hb dX1_undo_0 rfl (lv_at hl 0 rfl) ?_
  obtain ⟨v_1, ev_1, hf⟩ := ob hf
  refine g_get X I gfX1_93 (gR_in ev_1) dX1_undo_1 ?_
  obtain ⟨a_2, ea_2, hga_2⟩ := ob hf
  have hla_2 := hl
  have Ia_2 := I
  subst ea_2
  have hf := hga_2
  have hl := hla_2
  have I := Ia_2
  obtain ⟨u_3, eu_3, hf⟩ := ob hf
  obtain ⟨v_4, ev_4, hf⟩ := ob hf
  refine cg_V (vw := (RJ3, TJ3, 3)) (ci := 22) (r := (some (.int v_4))) (σ' := σ) (rs := [.int v_4]) (rest := []) (As := []) X I eu_3 rfl (mJ3_isEmpty hX ev_4) lvX1_529 hdX1_529 ⟨Nat.le_trans (Nat.le_of_ble_eq_true rfl) hR.1, Nat.le_trans (Nat.le_of_ble_eq_true rfl) hR.2⟩ rfl hl.1 rfl (Nat.le_of_ble_eq_true rfl) rfl dX1_undo_4 (fun H locs cells slots I => ?_)
  refine lv_if_eq (tgt := 12) hx hb dX1_undo_7 (by decide) (fun c_7 => ?_) (fun c_7 => ?_)
  · have hf := ip c_7 hf
    refine lv_aload_n hx hb dX1_undo_12 rfl (lv_at hl 0 rfl) ?_
    refine lv_aload_n hx hb dX1_undo_13 rfl (lv_at hl 0 rfl) ?_
    obtain ⟨v_6, ev_6, hf⟩ := ob hf
    refine g_get X I gfX1_93 (gR_in ev_6) dX1_undo_14 ?_
    obtain ⟨a_7, ea_7, hga_7⟩ := ob hf
    have hla_7 := hl
    have Ia_7 := I
    subst ea_7
    have hf := hga_7
    have hl := hla_7
    have I := Ia_7
    obtain ⟨u_8, eu_8, hf⟩ := ob hf
    obtain ⟨⟨v_9, σ_10⟩, ev_9, hf⟩ := ob hf
    refine cg_V (vw := (RJ3, TJ3, 3)) (ci := 22) (r := (some (va_rf v_9))) (σ' := σ_10) (rs := [va_rf v_9, .ref x0]) (rest := [.ref x0]) (As := []) X I eu_8 rfl (mJ3_removeLast hX ev_9) lvX1_530 hdX1_530 ⟨Nat.le_trans (Nat.le_of_ble_eq_true rfl) hR.1, Nat.le_trans (Nat.le_of_ble_eq_true rfl) hR.2⟩ rfl hl.1 rfl (Nat.le_of_ble_eq_true rfl) rfl dX1_undo_17 (fun H locs cells slots I => ?_)
    obtain ⟨a_11, ea_11, hga_11⟩ := ob hf
    have hla_11 := hl
    have Ia_11 := I
    subst ea_11
    have hf := hga_11
    have hl := hla_11
    have I := Ia_11
    obtain ⟨u_12, eu_12, hf⟩ := ob hf
    refine g_cast (vw := (RX2, TX2, 7)) X I rfl q172 eu_12 dX1_undo_20 ?_
    obtain ⟨σ_13, eσ_13, hf⟩ := ob hf
    refine g_put X I pfX1_87 rfl rfl eσ_13 dX1_undo_23 (fun H locs I => ?_)
    refine lv_aload_n hx hb dX1_undo_26 rfl (lv_at hl 0 rfl) ?_
    obtain ⟨v_14, ev_14, hf⟩ := ob hf
    refine g_get X I gfX1_93 (gR_in ev_14) dX1_undo_27 ?_
    obtain ⟨a_15, ea_15, hga_15⟩ := ob hf
    have hla_15 := hl
    have Ia_15 := I
    subst ea_15
    have hf := hga_15
    have hl := hla_15
    have I := Ia_15
    obtain ⟨u_16, eu_16, hf⟩ := ob hf
    obtain ⟨v_17, ev_17, hf⟩ := ob hf
    refine cg_V (vw := (RJ3, TJ3, 3)) (ci := 22) (r := (some (.int v_17))) (σ' := σ_13) (rs := [.int v_17]) (rest := []) (As := []) X I eu_16 rfl (mJ3_size hX ev_17) lvX1_103 hdX1_103 ⟨Nat.le_trans (Nat.le_of_ble_eq_true rfl) hR.1, Nat.le_trans (Nat.le_of_ble_eq_true rfl) hR.2⟩ rfl hl.1 rfl (Nat.le_of_ble_eq_true rfl) rfl dX1_undo_30 (fun H locs cells slots I => ?_)
    cases os hf
    exact r_iret X I dX1_undo_33
  · have hf := im c_7 hf
    refine lv_iconst (v := (-1)) hx hb dX1_undo_10 (by decide) ?_
    cases os hf
    exact r_iret X I dX1_undo_11
theorem mX1_undo {E : EV} {l : Launch} {σ : St} {x0 : Nat} {res : (Int32 × St)} (hX : XK E) (hf : fX1_undo σ x0 = some res) : CM E l yX1_undo (ws_ yX1_undo cX1_undo 1 (some .int)) 3 65 [.ref x0] σ (some (.int res.1)) res.2 := by
  refine CM.of hX.1 (by decide) rfl rfl (Nat.le_of_ble_eq_true rfl) ?_
  intro p e s m below meth c X I ls hl
  exact wX1_undo_0 hX ⟨Nat.le_refl _, Nat.le_refl _⟩ X _ _ _ _ _ _ _ I hl hf
/-! SharedTaxis.saveSnapshot()V imp=True fuel=True kap=True rt=None thr=False -/
def fX1_saveSnapshot (N : Nat) (κ : Nat → Nat) (σ : St) (x0 : Nat) : Option St := (gR σ x0 [(0, 3)]).bind fun v_1 : Option Nat => (v_1).bind fun a_2 : Nat => (isC σ a_2 1).bind fun u_3 : Unit => (fX2_copy N κ σ a_2).bind fun (v_4, σ_5) => (pV σ_5 x0 [(0, 4)] (.ref v_4)).bind fun σ_6 : St => some σ_6
theorem wX1_saveSnapshot_0 {E : EV} {l : Launch} {p : Program} {e : Env} {s : State} {m : MethodId} {args : Array Value} {below : List Frame} {meth : Method} {c : Code} {R : Room} {res : St} (hX : XK E) (hR : 9 ≤ R.frames ∧ 215 ≤ R.locals) (X : MX E p s m args meth c cX1_saveSnapshot 1 none RX1 "saveSnapshot") (N : Nat) : ∀ (x0 : Nat) (σ : St) (H : Heap) (locs : List Loc) (cells slots : Nat) (ls : Array Slot), WI E R s σ H locs cells slots → lv_has ls 1 [(0, .ref x0)] → fX1_saveSnapshot N E.2.2.2.1 σ x0 = some res → W p l e R s m args below meth c H locs cells slots (MQ below (Qd E R.cells R.slots none res) args s R.cells R.slots (fr E)) (F0 m 0 ls []) := by
  intro x0 σ H locs cells slots ls I hl hf
  obtain ⟨⟨hx, hb, hml, hown, hts⟩, -⟩ := id X
  unfold fX1_saveSnapshot at hf
  refine lv_aload_n hx hb dX1_saveSnapshot_0 rfl (lv_at hl 0 rfl) ?_
  refine lv_aload_n hx hb dX1_saveSnapshot_1 rfl (lv_at hl 0 rfl) ?_
  obtain ⟨v_1, ev_1, hf⟩ := ob hf
  refine g_get X I gfX1_87 (gR_in ev_1) dX1_saveSnapshot_2 ?_
  obtain ⟨a_2, ea_2, hga_2⟩ := ob hf
  have hla_2 := hl
  have Ia_2 := I
  subst ea_2
  have hf := hga_2
  have hl := hla_2
  have I := Ia_2
  obtain ⟨u_3, eu_3, hf⟩ := ob hf
  obtain ⟨⟨v_4, σ_5⟩, ev_4, hf⟩ := ob hf
  refine cg_V (vw := (RX2, TX2, 7)) (ci := 1) (r := (some (.ref v_4))) (σ' := σ_5) (rs := [.ref v_4, .ref x0]) (rest := [.ref x0]) (As := []) X I eu_3 rfl (mX2_copy hX ev_4) lvX1_110 hdX1_110 ⟨Nat.le_trans (Nat.le_of_ble_eq_true rfl) hR.1, Nat.le_trans (Nat.le_of_ble_eq_true rfl) hR.2⟩ rfl hl.1 rfl (Nat.le_of_ble_eq_true rfl) rfl dX1_saveSnapshot_5 (fun H locs cells slots I => ?_)
  obtain ⟨σ_6, eσ_6, hf⟩ := ob hf
  refine g_put X I pfX1_187 rfl rfl eσ_6 dX1_saveSnapshot_8 (fun H locs I => ?_)
  cases os hf
  exact r_vret X I dX1_saveSnapshot_11
theorem mX1_saveSnapshot {E : EV} {l : Launch} {N : Nat} {σ : St} {x0 : Nat} {res : St} (hX : XK E) (hf : fX1_saveSnapshot N E.2.2.2.1 σ x0 = some res) : CM E l yX1_saveSnapshot (ws_ yX1_saveSnapshot cX1_saveSnapshot 1 none) 9 215 [.ref x0] σ none res := by
  refine CM.of hX.1 (by decide) rfl rfl (Nat.le_of_ble_eq_true rfl) ?_
  intro p e s m below meth c X I ls hl
  exact wX1_saveSnapshot_0 hX ⟨Nat.le_refl _, Nat.le_refl _⟩ X N _ _ _ _ _ _ _ I hl hf
/-! SharedTaxis.restoreSnapshot()Z imp=True fuel=True kap=True rt=I thr=False -/
theorem gfX1_187 : ∀ q ∈ ([(0, 4)] : List (Nat × Nat)), GF RX1 187 q := List.forall_mem_cons.mpr ⟨⟨RX1, TX1, 7, _, rfl, in_X1, by decide, q304, Or.inl rfl⟩, fun _ h => by cases h⟩
def fX1_restoreSnapshot (N : Nat) (κ : Nat → Nat) (σ : St) (x0 : Nat) : Option (Int32 × St) := (gR σ x0 [(0, 4)]).bind fun v_1 : Option Nat => oc v_1 (some ((0 : Int32), σ)) fun a_2 => (gR σ x0 [(0, 4)]).bind fun v_3 : Option Nat => (v_3).bind fun a_4 : Nat => (isC σ a_4 1).bind fun u_5 : Unit => (fX2_copy N κ σ a_4).bind fun (v_6, σ_7) => (pV σ_7 x0 [(0, 3)] (.ref v_6)).bind fun σ_8 : St => (gR σ_8 x0 [(0, 5)]).bind fun v_9 : Option Nat => (v_9).bind fun a_10 : Nat => (isC σ_8 a_10 22).bind fun u_11 : Unit => (fJ3_clear N σ_8 a_10).bind fun σ_13 : St => some ((1 : Int32), σ_13)
theorem wX1_restoreSnapshot_0 {E : EV} {l : Launch} {p : Program} {e : Env} {s : State} {m : MethodId} {args : Array Value} {below : List Frame} {meth : Method} {c : Code} {R : Room} {res : (Int32 × St)} (hX : XK E) (hR : 9 ≤ R.frames ∧ 215 ≤ R.locals) (X : MX E p s m args meth c cX1_restoreSnapshot 1 (some .boolean) RX1 "restoreSnapshot") (N : Nat) : ∀ (x0 : Nat) (σ : St) (H : Heap) (locs : List Loc) (cells slots : Nat) (ls : Array Slot), WI E R s σ H locs cells slots → lv_has ls 1 [(0, .ref x0)] → fX1_restoreSnapshot N E.2.2.2.1 σ x0 = some res → W p l e R s m args below meth c H locs cells slots (MQ below (Qd E R.cells R.slots (some (.int res.1)) res.2) args s R.cells R.slots (fr E)) (F0 m 0 ls []) := by
  intro x0 σ H locs cells slots ls I hl hf
  obtain ⟨⟨hx, hb, hml, hown, hts⟩, -⟩ := id X
  unfold fX1_restoreSnapshot at hf
  refine lv_aload_n hx hb dX1_restoreSnapshot_0 rfl (lv_at hl 0 rfl) ?_
  obtain ⟨v_1, ev_1, hf⟩ := ob hf
  refine g_get X I gfX1_187 (gR_in ev_1) dX1_restoreSnapshot_1 ?_
  have hga_2 := hf
  have hla_2 := hl
  have Ia_2 := I
  rcases v_1 with _ | a_2
  · have hf := oc_n hga_2
    have hl := hla_2
    have I := Ia_2
    refine lv_ifnonnullN hx hb dX1_restoreSnapshot_4 ?_
    refine lv_iconst (v := 0) hx hb dX1_restoreSnapshot_7 (by decide) ?_
    cases os hf
    exact r_zret X I (Or.inl rfl) dX1_restoreSnapshot_8
  · have hf := oc_s hga_2
    have hl := hla_2
    have I := Ia_2
    refine lv_ifnonnull (tgt := 9) hx hb dX1_restoreSnapshot_4 (by decide) ?_
    refine lv_aload_n hx hb dX1_restoreSnapshot_9 rfl (lv_at hl 0 rfl) ?_
    refine lv_aload_n hx hb dX1_restoreSnapshot_10 rfl (lv_at hl 0 rfl) ?_
    obtain ⟨v_3, ev_3, hf⟩ := ob hf
    refine g_get X I gfX1_187 (gR_in ev_3) dX1_restoreSnapshot_11 ?_
    obtain ⟨a_4, ea_4, hga_4⟩ := ob hf
    have hla_4 := hl
    have Ia_4 := I
    subst ea_4
    have hf := hga_4
    have hl := hla_4
    have I := Ia_4
    obtain ⟨u_5, eu_5, hf⟩ := ob hf
    obtain ⟨⟨v_6, σ_7⟩, ev_6, hf⟩ := ob hf
    refine cg_V (vw := (RX2, TX2, 7)) (ci := 1) (r := (some (.ref v_6))) (σ' := σ_7) (rs := [.ref v_6, .ref x0]) (rest := [.ref x0]) (As := []) X I eu_5 rfl (mX2_copy hX ev_6) lvX1_110 hdX1_110 ⟨Nat.le_trans (Nat.le_of_ble_eq_true rfl) hR.1, Nat.le_trans (Nat.le_of_ble_eq_true rfl) hR.2⟩ rfl hl.1 rfl (Nat.le_of_ble_eq_true rfl) rfl dX1_restoreSnapshot_14 (fun H locs cells slots I => ?_)
    obtain ⟨σ_8, eσ_8, hf⟩ := ob hf
    refine g_put X I pfX1_87 rfl rfl eσ_8 dX1_restoreSnapshot_17 (fun H locs I => ?_)
    refine lv_aload_n hx hb dX1_restoreSnapshot_20 rfl (lv_at hl 0 rfl) ?_
    obtain ⟨v_9, ev_9, hf⟩ := ob hf
    refine g_get X I gfX1_93 (gR_in ev_9) dX1_restoreSnapshot_21 ?_
    obtain ⟨a_10, ea_10, hga_10⟩ := ob hf
    have hla_10 := hl
    have Ia_10 := I
    subst ea_10
    have hf := hga_10
    have hl := hla_10
    have I := Ia_10
    obtain ⟨u_11, eu_11, hf⟩ := ob hf
    obtain ⟨σ_13, ev_12, hf⟩ := ob hf
    refine cg_V (vw := (RJ3, TJ3, 3)) (ci := 22) (r := none) (σ' := σ_13) (rs := []) (rest := []) (As := []) X I eu_11 rfl (mJ3_clear hX ev_12) lvX1_184 hdX1_184 ⟨Nat.le_trans (Nat.le_of_ble_eq_true rfl) hR.1, Nat.le_trans (Nat.le_of_ble_eq_true rfl) hR.2⟩ rfl hl.1 rfl (Nat.le_of_ble_eq_true rfl) rfl dX1_restoreSnapshot_24 (fun H locs cells slots I => ?_)
    refine lv_iconst (v := 1) hx hb dX1_restoreSnapshot_27 (by decide) ?_
    cases os hf
    exact r_zret X I (Or.inr rfl) dX1_restoreSnapshot_28
theorem mX1_restoreSnapshot {E : EV} {l : Launch} {N : Nat} {σ : St} {x0 : Nat} {res : (Int32 × St)} (hX : XK E) (hf : fX1_restoreSnapshot N E.2.2.2.1 σ x0 = some res) : CM E l yX1_restoreSnapshot (ws_ yX1_restoreSnapshot cX1_restoreSnapshot 1 (some .boolean)) 9 215 [.ref x0] σ (some (.int res.1)) res.2 := by
  refine CM.of hX.1 (by decide) rfl rfl (Nat.le_of_ble_eq_true rfl) ?_
  intro p e s m below meth c X I ls hl
  exact wX1_restoreSnapshot_0 hX ⟨Nat.le_refl _, Nat.le_refl _⟩ X N _ _ _ _ _ _ _ I hl hf
/-! SharedTaxis.lambda$property$0(LSharedTaxis$State;I)I imp=False fuel=False kap=False rt=I thr=False -/
def fX1_lambda_property_0 (σ : St) (x0 : Nat) (x1 : Int32) : Option Int32 := some x1
theorem wX1_lambda_property_0_0 {E : EV} {l : Launch} {p : Program} {e : Env} {s : State} {m : MethodId} {args : Array Value} {below : List Frame} {meth : Method} {c : Code} {R : Room} {σ : St} {res : Int32} (hX : XK E) (hR : 0 ≤ R.frames ∧ 0 ≤ R.locals) (X : MX E p s m args meth c cX1_lambda_property_0 2 (some .int) RX1 "lambda$property$0") : ∀ (x0 : Nat) (x1 : Int32) (H : Heap) (locs : List Loc) (cells slots : Nat) (ls : Array Slot), WI E R s σ H locs cells slots → lv_has ls 2 [(0, .ref x0), (1, .int x1)] → fX1_lambda_property_0 σ x0 x1 = some res → W p l e R s m args below meth c H locs cells slots (MQ below (Qd E R.cells R.slots (some (.int res)) σ) args s R.cells R.slots (fr E)) (F0 m 0 ls []) := by
  intro x0 x1 H locs cells slots ls I hl hf
  obtain ⟨⟨hx, hb, hml, hown, hts⟩, -⟩ := id X
  unfold fX1_lambda_property_0 at hf
  refine lv_iload_n hx hb dX1_lambda_property_0_0 rfl (lv_at hl 1 rfl) ?_
  cases os hf
  exact r_iret X I dX1_lambda_property_0_1
theorem mX1_lambda_property_0 {E : EV} {l : Launch} {σ : St} {x0 : Nat} {x1 : Int32} {res : Int32} (hX : XK E) (hf : fX1_lambda_property_0 σ x0 x1 = some res) : CM E l yX1_lambda_property_0 (ws_ yX1_lambda_property_0 cX1_lambda_property_0 2 (some .int)) 0 0 [.ref x0, .int x1] σ (some (.int res)) σ := by
  refine CM.of hX.1 (by decide) rfl rfl (Nat.le_of_ble_eq_true rfl) ?_
  intro p e s m below meth c X I ls hl
  exact wX1_lambda_property_0_0 hX ⟨Nat.le_refl _, Nat.le_refl _⟩ X _ _ _ _ _ _ _ I hl hf
/-! SharedTaxis.lambda$property$1(LSharedTaxis$State;I)I imp=False fuel=False kap=False rt=I thr=False -/
def fX1_lambda_property_1 (σ : St) (x0 : Nat) (x1 : Int32) : Option Int32 := (gR σ x0 [(1, 6)]).bind fun v_1 : Option Nat => (v_1).bind fun a_2 : Nat => (isC σ a_2 21).bind fun u_3 : Unit => (fJ2_get σ a_2 x1).bind fun v_4 : Option Nat => (v_4).bind fun a_6 : Nat => (isC σ a_6 14).bind fun u_7 : Unit => (gI σ a_6 [(14, 8)]).bind fun v_8 : Int32 => some v_8
theorem wX1_lambda_property_1_0 {E : EV} {l : Launch} {p : Program} {e : Env} {s : State} {m : MethodId} {args : Array Value} {below : List Frame} {meth : Method} {c : Code} {R : Room} {σ : St} {res : Int32} (hX : XK E) (hR : 3 ≤ R.frames ∧ 64 ≤ R.locals) (X : MX E p s m args meth c cX1_lambda_property_1 2 (some .int) RX1 "lambda$property$1") : ∀ (x0 : Nat) (x1 : Int32) (H : Heap) (locs : List Loc) (cells slots : Nat) (ls : Array Slot), WI E R s σ H locs cells slots → lv_has ls 2 [(0, .ref x0), (1, .int x1)] → fX1_lambda_property_1 σ x0 x1 = some res → W p l e R s m args below meth c H locs cells slots (MQ below (Qd E R.cells R.slots (some (.int res)) σ) args s R.cells R.slots (fr E)) (F0 m 0 ls []) := by
  intro x0 x1 H locs cells slots ls I hl hf
  obtain ⟨⟨hx, hb, hml, hown, hts⟩, -⟩ := id X
  unfold fX1_lambda_property_1 at hf
  refine lv_aload_n hx hb dX1_lambda_property_1_0 rfl (lv_at hl 0 rfl) ?_
  obtain ⟨v_1, ev_1, hf⟩ := ob hf
  refine g_getN hX X I gfX1_146 (gR_in ev_1) dX1_lambda_property_1_1 ?_
  refine lv_iload_n hx hb dX1_lambda_property_1_4 rfl (lv_at hl 1 rfl) ?_
  obtain ⟨a_2, ea_2, hga_2⟩ := ob hf
  have hla_2 := hl
  have Ia_2 := I
  subst ea_2
  have hf := hga_2
  have hl := hla_2
  have I := Ia_2
  obtain ⟨u_3, eu_3, hf⟩ := ob hf
  obtain ⟨v_4, ev_4, hf⟩ := ob hf
  refine cg_F (vw := (RJ2, TJ2, 3)) (ci := 21) (r := (some (va_rf v_4))) (σ' := σ) (rs := [va_rf v_4]) (rest := []) (As := [.int x1]) hX X I eu_3 rfl (mJ2_get hX ev_4) lvX1_140_J2 hdX1_140_J2 ⟨Nat.le_trans (Nat.le_of_ble_eq_true rfl) hR.1, Nat.le_trans (Nat.le_of_ble_eq_true rfl) hR.2⟩ rfl hl.1 rfl (Nat.le_of_ble_eq_true rfl) rfl dX1_lambda_property_1_5 (fun H locs cells slots I => ?_)
  obtain ⟨a_6, ea_6, hga_6⟩ := ob hf
  have hla_6 := hl
  have Ia_6 := I
  subst ea_6
  have hf := hga_6
  have hl := hla_6
  have I := Ia_6
  obtain ⟨u_7, eu_7, hf⟩ := ob hf
  refine g_cast (vw := (RX16, TX16, 15)) X I rfl q800 eu_7 dX1_lambda_property_1_10 ?_
  obtain ⟨v_8, ev_8, hf⟩ := ob hf
  refine g_getN hX X I gfX1_313 (gI_in ev_8) dX1_lambda_property_1_13 ?_
  cases os hf
  exact r_iret X I dX1_lambda_property_1_16
theorem mX1_lambda_property_1 {E : EV} {l : Launch} {σ : St} {x0 : Nat} {x1 : Int32} {res : Int32} (hX : XK E) (hf : fX1_lambda_property_1 σ x0 x1 = some res) : CM E l yX1_lambda_property_1 (ws_ yX1_lambda_property_1 cX1_lambda_property_1 2 (some .int)) 3 64 [.ref x0, .int x1] σ (some (.int res)) σ := by
  refine CM.of hX.1 (by decide) rfl rfl (Nat.le_of_ble_eq_true rfl) ?_
  intro p e s m below meth c X I ls hl
  exact wX1_lambda_property_1_0 hX ⟨Nat.le_refl _, Nat.le_refl _⟩ X _ _ _ _ _ _ _ I hl hf
/-! SharedTaxis.lambda$property$2(LSharedTaxis$State;I)I imp=False fuel=False kap=False rt=I thr=False -/
def fX1_lambda_property_2 (σ : St) (x0 : Nat) (x1 : Int32) : Option Int32 := (gR σ x0 [(1, 6)]).bind fun v_1 : Option Nat => (v_1).bind fun a_2 : Nat => (isC σ a_2 21).bind fun u_3 : Unit => (fJ2_get σ a_2 x1).bind fun v_4 : Option Nat => (v_4).bind fun a_6 : Nat => (isC σ a_6 14).bind fun u_7 : Unit => (gI σ a_6 [(14, 1)]).bind fun v_8 : Int32 => some v_8
theorem wX1_lambda_property_2_0 {E : EV} {l : Launch} {p : Program} {e : Env} {s : State} {m : MethodId} {args : Array Value} {below : List Frame} {meth : Method} {c : Code} {R : Room} {σ : St} {res : Int32} (hX : XK E) (hR : 3 ≤ R.frames ∧ 64 ≤ R.locals) (X : MX E p s m args meth c cX1_lambda_property_2 2 (some .int) RX1 "lambda$property$2") : ∀ (x0 : Nat) (x1 : Int32) (H : Heap) (locs : List Loc) (cells slots : Nat) (ls : Array Slot), WI E R s σ H locs cells slots → lv_has ls 2 [(0, .ref x0), (1, .int x1)] → fX1_lambda_property_2 σ x0 x1 = some res → W p l e R s m args below meth c H locs cells slots (MQ below (Qd E R.cells R.slots (some (.int res)) σ) args s R.cells R.slots (fr E)) (F0 m 0 ls []) := by
  intro x0 x1 H locs cells slots ls I hl hf
  obtain ⟨⟨hx, hb, hml, hown, hts⟩, -⟩ := id X
  unfold fX1_lambda_property_2 at hf
  refine lv_aload_n hx hb dX1_lambda_property_2_0 rfl (lv_at hl 0 rfl) ?_
  obtain ⟨v_1, ev_1, hf⟩ := ob hf
  refine g_getN hX X I gfX1_146 (gR_in ev_1) dX1_lambda_property_2_1 ?_
  refine lv_iload_n hx hb dX1_lambda_property_2_4 rfl (lv_at hl 1 rfl) ?_
  obtain ⟨a_2, ea_2, hga_2⟩ := ob hf
  have hla_2 := hl
  have Ia_2 := I
  subst ea_2
  have hf := hga_2
  have hl := hla_2
  have I := Ia_2
  obtain ⟨u_3, eu_3, hf⟩ := ob hf
  obtain ⟨v_4, ev_4, hf⟩ := ob hf
  refine cg_F (vw := (RJ2, TJ2, 3)) (ci := 21) (r := (some (va_rf v_4))) (σ' := σ) (rs := [va_rf v_4]) (rest := []) (As := [.int x1]) hX X I eu_3 rfl (mJ2_get hX ev_4) lvX1_140_J2 hdX1_140_J2 ⟨Nat.le_trans (Nat.le_of_ble_eq_true rfl) hR.1, Nat.le_trans (Nat.le_of_ble_eq_true rfl) hR.2⟩ rfl hl.1 rfl (Nat.le_of_ble_eq_true rfl) rfl dX1_lambda_property_2_5 (fun H locs cells slots I => ?_)
  obtain ⟨a_6, ea_6, hga_6⟩ := ob hf
  have hla_6 := hl
  have Ia_6 := I
  subst ea_6
  have hf := hga_6
  have hl := hla_6
  have I := Ia_6
  obtain ⟨u_7, eu_7, hf⟩ := ob hf
  refine g_cast (vw := (RX16, TX16, 15)) X I rfl q800 eu_7 dX1_lambda_property_2_10 ?_
  obtain ⟨v_8, ev_8, hf⟩ := ob hf
  refine g_getN hX X I gfX1_315 (gI_in ev_8) dX1_lambda_property_2_13 ?_
  cases os hf
  exact r_iret X I dX1_lambda_property_2_16
theorem mX1_lambda_property_2 {E : EV} {l : Launch} {σ : St} {x0 : Nat} {x1 : Int32} {res : Int32} (hX : XK E) (hf : fX1_lambda_property_2 σ x0 x1 = some res) : CM E l yX1_lambda_property_2 (ws_ yX1_lambda_property_2 cX1_lambda_property_2 2 (some .int)) 3 64 [.ref x0, .int x1] σ (some (.int res)) σ := by
  refine CM.of hX.1 (by decide) rfl rfl (Nat.le_of_ble_eq_true rfl) ?_
  intro p e s m below meth c X I ls hl
  exact wX1_lambda_property_2_0 hX ⟨Nat.le_refl _, Nat.le_refl _⟩ X _ _ _ _ _ _ _ I hl hf
/-! SharedTaxis.lambda$property$3(LSharedTaxis$State;I)I imp=False fuel=False kap=False rt=I thr=False -/
def fX1_lambda_property_3 (σ : St) (x0 : Nat) (x1 : Int32) : Option Int32 := (gR σ x0 [(1, 6)]).bind fun v_1 : Option Nat => (v_1).bind fun a_2 : Nat => (isC σ a_2 21).bind fun u_3 : Unit => (fJ2_get σ a_2 x1).bind fun v_4 : Option Nat => (v_4).bind fun a_6 : Nat => (isC σ a_6 14).bind fun u_7 : Unit => (gI σ a_6 [(14, 2)]).bind fun v_8 : Int32 => some v_8
theorem wX1_lambda_property_3_0 {E : EV} {l : Launch} {p : Program} {e : Env} {s : State} {m : MethodId} {args : Array Value} {below : List Frame} {meth : Method} {c : Code} {R : Room} {σ : St} {res : Int32} (hX : XK E) (hR : 3 ≤ R.frames ∧ 64 ≤ R.locals) (X : MX E p s m args meth c cX1_lambda_property_3 2 (some .int) RX1 "lambda$property$3") : ∀ (x0 : Nat) (x1 : Int32) (H : Heap) (locs : List Loc) (cells slots : Nat) (ls : Array Slot), WI E R s σ H locs cells slots → lv_has ls 2 [(0, .ref x0), (1, .int x1)] → fX1_lambda_property_3 σ x0 x1 = some res → W p l e R s m args below meth c H locs cells slots (MQ below (Qd E R.cells R.slots (some (.int res)) σ) args s R.cells R.slots (fr E)) (F0 m 0 ls []) := by
  intro x0 x1 H locs cells slots ls I hl hf
  obtain ⟨⟨hx, hb, hml, hown, hts⟩, -⟩ := id X
  unfold fX1_lambda_property_3 at hf
  refine lv_aload_n hx hb dX1_lambda_property_3_0 rfl (lv_at hl 0 rfl) ?_
  obtain ⟨v_1, ev_1, hf⟩ := ob hf
  refine g_getN hX X I gfX1_146 (gR_in ev_1) dX1_lambda_property_3_1 ?_
  refine lv_iload_n hx hb dX1_lambda_property_3_4 rfl (lv_at hl 1 rfl) ?_
  obtain ⟨a_2, ea_2, hga_2⟩ := ob hf
  have hla_2 := hl
  have Ia_2 := I
  subst ea_2
  have hf := hga_2
  have hl := hla_2
  have I := Ia_2
  obtain ⟨u_3, eu_3, hf⟩ := ob hf
  obtain ⟨v_4, ev_4, hf⟩ := ob hf
  refine cg_F (vw := (RJ2, TJ2, 3)) (ci := 21) (r := (some (va_rf v_4))) (σ' := σ) (rs := [va_rf v_4]) (rest := []) (As := [.int x1]) hX X I eu_3 rfl (mJ2_get hX ev_4) lvX1_140_J2 hdX1_140_J2 ⟨Nat.le_trans (Nat.le_of_ble_eq_true rfl) hR.1, Nat.le_trans (Nat.le_of_ble_eq_true rfl) hR.2⟩ rfl hl.1 rfl (Nat.le_of_ble_eq_true rfl) rfl dX1_lambda_property_3_5 (fun H locs cells slots I => ?_)
  obtain ⟨a_6, ea_6, hga_6⟩ := ob hf
  have hla_6 := hl
  have Ia_6 := I
  subst ea_6
  have hf := hga_6
  have hl := hla_6
  have I := Ia_6
  obtain ⟨u_7, eu_7, hf⟩ := ob hf
  refine g_cast (vw := (RX16, TX16, 15)) X I rfl q800 eu_7 dX1_lambda_property_3_10 ?_
  obtain ⟨v_8, ev_8, hf⟩ := ob hf
  refine g_getN hX X I gfX1_317 (gI_in ev_8) dX1_lambda_property_3_13 ?_
  cases os hf
  exact r_iret X I dX1_lambda_property_3_16
theorem mX1_lambda_property_3 {E : EV} {l : Launch} {σ : St} {x0 : Nat} {x1 : Int32} {res : Int32} (hX : XK E) (hf : fX1_lambda_property_3 σ x0 x1 = some res) : CM E l yX1_lambda_property_3 (ws_ yX1_lambda_property_3 cX1_lambda_property_3 2 (some .int)) 3 64 [.ref x0, .int x1] σ (some (.int res)) σ := by
  refine CM.of hX.1 (by decide) rfl rfl (Nat.le_of_ble_eq_true rfl) ?_
  intro p e s m below meth c X I ls hl
  exact wX1_lambda_property_3_0 hX ⟨Nat.le_refl _, Nat.le_refl _⟩ X _ _ _ _ _ _ _ I hl hf
/-! SharedTaxis.lambda$property$4(LSharedTaxis$State;I)I imp=False fuel=False kap=False rt=I thr=False -/
def fX1_lambda_property_4 (σ : St) (x0 : Nat) (x1 : Int32) : Option Int32 := (gR σ x0 [(1, 6)]).bind fun v_1 : Option Nat => (v_1).bind fun a_2 : Nat => (isC σ a_2 21).bind fun u_3 : Unit => (fJ2_get σ a_2 x1).bind fun v_4 : Option Nat => (v_4).bind fun a_6 : Nat => (isC σ a_6 14).bind fun u_7 : Unit => (gI σ a_6 [(14, 3)]).bind fun v_8 : Int32 => some v_8
theorem wX1_lambda_property_4_0 {E : EV} {l : Launch} {p : Program} {e : Env} {s : State} {m : MethodId} {args : Array Value} {below : List Frame} {meth : Method} {c : Code} {R : Room} {σ : St} {res : Int32} (hX : XK E) (hR : 3 ≤ R.frames ∧ 64 ≤ R.locals) (X : MX E p s m args meth c cX1_lambda_property_4 2 (some .int) RX1 "lambda$property$4") : ∀ (x0 : Nat) (x1 : Int32) (H : Heap) (locs : List Loc) (cells slots : Nat) (ls : Array Slot), WI E R s σ H locs cells slots → lv_has ls 2 [(0, .ref x0), (1, .int x1)] → fX1_lambda_property_4 σ x0 x1 = some res → W p l e R s m args below meth c H locs cells slots (MQ below (Qd E R.cells R.slots (some (.int res)) σ) args s R.cells R.slots (fr E)) (F0 m 0 ls []) := by
  intro x0 x1 H locs cells slots ls I hl hf
  obtain ⟨⟨hx, hb, hml, hown, hts⟩, -⟩ := id X
  unfold fX1_lambda_property_4 at hf
  refine lv_aload_n hx hb dX1_lambda_property_4_0 rfl (lv_at hl 0 rfl) ?_
  obtain ⟨v_1, ev_1, hf⟩ := ob hf
  refine g_getN hX X I gfX1_146 (gR_in ev_1) dX1_lambda_property_4_1 ?_
  refine lv_iload_n hx hb dX1_lambda_property_4_4 rfl (lv_at hl 1 rfl) ?_
  obtain ⟨a_2, ea_2, hga_2⟩ := ob hf
  have hla_2 := hl
  have Ia_2 := I
  subst ea_2
  have hf := hga_2
  have hl := hla_2
  have I := Ia_2
  obtain ⟨u_3, eu_3, hf⟩ := ob hf
  obtain ⟨v_4, ev_4, hf⟩ := ob hf
  refine cg_F (vw := (RJ2, TJ2, 3)) (ci := 21) (r := (some (va_rf v_4))) (σ' := σ) (rs := [va_rf v_4]) (rest := []) (As := [.int x1]) hX X I eu_3 rfl (mJ2_get hX ev_4) lvX1_140_J2 hdX1_140_J2 ⟨Nat.le_trans (Nat.le_of_ble_eq_true rfl) hR.1, Nat.le_trans (Nat.le_of_ble_eq_true rfl) hR.2⟩ rfl hl.1 rfl (Nat.le_of_ble_eq_true rfl) rfl dX1_lambda_property_4_5 (fun H locs cells slots I => ?_)
  obtain ⟨a_6, ea_6, hga_6⟩ := ob hf
  have hla_6 := hl
  have Ia_6 := I
  subst ea_6
  have hf := hga_6
  have hl := hla_6
  have I := Ia_6
  obtain ⟨u_7, eu_7, hf⟩ := ob hf
  refine g_cast (vw := (RX16, TX16, 15)) X I rfl q800 eu_7 dX1_lambda_property_4_10 ?_
  obtain ⟨v_8, ev_8, hf⟩ := ob hf
  refine g_getN hX X I gfX1_319 (gI_in ev_8) dX1_lambda_property_4_13 ?_
  cases os hf
  exact r_iret X I dX1_lambda_property_4_16
theorem mX1_lambda_property_4 {E : EV} {l : Launch} {σ : St} {x0 : Nat} {x1 : Int32} {res : Int32} (hX : XK E) (hf : fX1_lambda_property_4 σ x0 x1 = some res) : CM E l yX1_lambda_property_4 (ws_ yX1_lambda_property_4 cX1_lambda_property_4 2 (some .int)) 3 64 [.ref x0, .int x1] σ (some (.int res)) σ := by
  refine CM.of hX.1 (by decide) rfl rfl (Nat.le_of_ble_eq_true rfl) ?_
  intro p e s m below meth c X I ls hl
  exact wX1_lambda_property_4_0 hX ⟨Nat.le_refl _, Nat.le_refl _⟩ X _ _ _ _ _ _ _ I hl hf
/-! SharedTaxis.lambda$property$5(LSharedTaxis$State;I)I imp=False fuel=False kap=False rt=I thr=False -/
def fX1_lambda_property_5 (σ : St) (x0 : Nat) (x1 : Int32) : Option Int32 := (gR σ x0 [(1, 6)]).bind fun v_1 : Option Nat => (v_1).bind fun a_2 : Nat => (isC σ a_2 21).bind fun u_3 : Unit => (fJ2_get σ a_2 x1).bind fun v_4 : Option Nat => (v_4).bind fun a_6 : Nat => (isC σ a_6 14).bind fun u_7 : Unit => (gI σ a_6 [(14, 4)]).bind fun v_8 : Int32 => some v_8
theorem wX1_lambda_property_5_0 {E : EV} {l : Launch} {p : Program} {e : Env} {s : State} {m : MethodId} {args : Array Value} {below : List Frame} {meth : Method} {c : Code} {R : Room} {σ : St} {res : Int32} (hX : XK E) (hR : 3 ≤ R.frames ∧ 64 ≤ R.locals) (X : MX E p s m args meth c cX1_lambda_property_5 2 (some .int) RX1 "lambda$property$5") : ∀ (x0 : Nat) (x1 : Int32) (H : Heap) (locs : List Loc) (cells slots : Nat) (ls : Array Slot), WI E R s σ H locs cells slots → lv_has ls 2 [(0, .ref x0), (1, .int x1)] → fX1_lambda_property_5 σ x0 x1 = some res → W p l e R s m args below meth c H locs cells slots (MQ below (Qd E R.cells R.slots (some (.int res)) σ) args s R.cells R.slots (fr E)) (F0 m 0 ls []) := by
  intro x0 x1 H locs cells slots ls I hl hf
  obtain ⟨⟨hx, hb, hml, hown, hts⟩, -⟩ := id X
  unfold fX1_lambda_property_5 at hf
  refine lv_aload_n hx hb dX1_lambda_property_5_0 rfl (lv_at hl 0 rfl) ?_
  obtain ⟨v_1, ev_1, hf⟩ := ob hf
  refine g_getN hX X I gfX1_146 (gR_in ev_1) dX1_lambda_property_5_1 ?_
  refine lv_iload_n hx hb dX1_lambda_property_5_4 rfl (lv_at hl 1 rfl) ?_
  obtain ⟨a_2, ea_2, hga_2⟩ := ob hf
  have hla_2 := hl
  have Ia_2 := I
  subst ea_2
  have hf := hga_2
  have hl := hla_2
  have I := Ia_2
  obtain ⟨u_3, eu_3, hf⟩ := ob hf
  obtain ⟨v_4, ev_4, hf⟩ := ob hf
  refine cg_F (vw := (RJ2, TJ2, 3)) (ci := 21) (r := (some (va_rf v_4))) (σ' := σ) (rs := [va_rf v_4]) (rest := []) (As := [.int x1]) hX X I eu_3 rfl (mJ2_get hX ev_4) lvX1_140_J2 hdX1_140_J2 ⟨Nat.le_trans (Nat.le_of_ble_eq_true rfl) hR.1, Nat.le_trans (Nat.le_of_ble_eq_true rfl) hR.2⟩ rfl hl.1 rfl (Nat.le_of_ble_eq_true rfl) rfl dX1_lambda_property_5_5 (fun H locs cells slots I => ?_)
  obtain ⟨a_6, ea_6, hga_6⟩ := ob hf
  have hla_6 := hl
  have Ia_6 := I
  subst ea_6
  have hf := hga_6
  have hl := hla_6
  have I := Ia_6
  obtain ⟨u_7, eu_7, hf⟩ := ob hf
  refine g_cast (vw := (RX16, TX16, 15)) X I rfl q800 eu_7 dX1_lambda_property_5_10 ?_
  obtain ⟨v_8, ev_8, hf⟩ := ob hf
  refine g_getN hX X I gfX1_321 (gI_in ev_8) dX1_lambda_property_5_13 ?_
  cases os hf
  exact r_iret X I dX1_lambda_property_5_16
theorem mX1_lambda_property_5 {E : EV} {l : Launch} {σ : St} {x0 : Nat} {x1 : Int32} {res : Int32} (hX : XK E) (hf : fX1_lambda_property_5 σ x0 x1 = some res) : CM E l yX1_lambda_property_5 (ws_ yX1_lambda_property_5 cX1_lambda_property_5 2 (some .int)) 3 64 [.ref x0, .int x1] σ (some (.int res)) σ := by
  refine CM.of hX.1 (by decide) rfl rfl (Nat.le_of_ble_eq_true rfl) ?_
  intro p e s m below meth c X I ls hl
  exact wX1_lambda_property_5_0 hX ⟨Nat.le_refl _, Nat.le_refl _⟩ X _ _ _ _ _ _ _ I hl hf
/-! SharedTaxis.lambda$property$6(LSharedTaxis$State;I)I imp=False fuel=False kap=False rt=I thr=False -/
def fX1_lambda_property_6 (σ : St) (x0 : Nat) (x1 : Int32) : Option Int32 := (gR σ x0 [(1, 6)]).bind fun v_1 : Option Nat => (v_1).bind fun a_2 : Nat => (isC σ a_2 21).bind fun u_3 : Unit => (fJ2_get σ a_2 x1).bind fun v_4 : Option Nat => (v_4).bind fun a_6 : Nat => (isC σ a_6 14).bind fun u_7 : Unit => (gI σ a_6 [(14, 6)]).bind fun v_8 : Int32 => some v_8
theorem wX1_lambda_property_6_0 {E : EV} {l : Launch} {p : Program} {e : Env} {s : State} {m : MethodId} {args : Array Value} {below : List Frame} {meth : Method} {c : Code} {R : Room} {σ : St} {res : Int32} (hX : XK E) (hR : 3 ≤ R.frames ∧ 64 ≤ R.locals) (X : MX E p s m args meth c cX1_lambda_property_6 2 (some .int) RX1 "lambda$property$6") : ∀ (x0 : Nat) (x1 : Int32) (H : Heap) (locs : List Loc) (cells slots : Nat) (ls : Array Slot), WI E R s σ H locs cells slots → lv_has ls 2 [(0, .ref x0), (1, .int x1)] → fX1_lambda_property_6 σ x0 x1 = some res → W p l e R s m args below meth c H locs cells slots (MQ below (Qd E R.cells R.slots (some (.int res)) σ) args s R.cells R.slots (fr E)) (F0 m 0 ls []) := by
  intro x0 x1 H locs cells slots ls I hl hf
  obtain ⟨⟨hx, hb, hml, hown, hts⟩, -⟩ := id X
  unfold fX1_lambda_property_6 at hf
  refine lv_aload_n hx hb dX1_lambda_property_6_0 rfl (lv_at hl 0 rfl) ?_
  obtain ⟨v_1, ev_1, hf⟩ := ob hf
  refine g_getN hX X I gfX1_146 (gR_in ev_1) dX1_lambda_property_6_1 ?_
  refine lv_iload_n hx hb dX1_lambda_property_6_4 rfl (lv_at hl 1 rfl) ?_
  obtain ⟨a_2, ea_2, hga_2⟩ := ob hf
  have hla_2 := hl
  have Ia_2 := I
  subst ea_2
  have hf := hga_2
  have hl := hla_2
  have I := Ia_2
  obtain ⟨u_3, eu_3, hf⟩ := ob hf
  obtain ⟨v_4, ev_4, hf⟩ := ob hf
  refine cg_F (vw := (RJ2, TJ2, 3)) (ci := 21) (r := (some (va_rf v_4))) (σ' := σ) (rs := [va_rf v_4]) (rest := []) (As := [.int x1]) hX X I eu_3 rfl (mJ2_get hX ev_4) lvX1_140_J2 hdX1_140_J2 ⟨Nat.le_trans (Nat.le_of_ble_eq_true rfl) hR.1, Nat.le_trans (Nat.le_of_ble_eq_true rfl) hR.2⟩ rfl hl.1 rfl (Nat.le_of_ble_eq_true rfl) rfl dX1_lambda_property_6_5 (fun H locs cells slots I => ?_)
  obtain ⟨a_6, ea_6, hga_6⟩ := ob hf
  have hla_6 := hl
  have Ia_6 := I
  subst ea_6
  have hf := hga_6
  have hl := hla_6
  have I := Ia_6
  obtain ⟨u_7, eu_7, hf⟩ := ob hf
  refine g_cast (vw := (RX16, TX16, 15)) X I rfl q800 eu_7 dX1_lambda_property_6_10 ?_
  obtain ⟨v_8, ev_8, hf⟩ := ob hf
  refine g_getN hX X I gfX1_326 (gI_in ev_8) dX1_lambda_property_6_13 ?_
  cases os hf
  exact r_iret X I dX1_lambda_property_6_16
theorem mX1_lambda_property_6 {E : EV} {l : Launch} {σ : St} {x0 : Nat} {x1 : Int32} {res : Int32} (hX : XK E) (hf : fX1_lambda_property_6 σ x0 x1 = some res) : CM E l yX1_lambda_property_6 (ws_ yX1_lambda_property_6 cX1_lambda_property_6 2 (some .int)) 3 64 [.ref x0, .int x1] σ (some (.int res)) σ := by
  refine CM.of hX.1 (by decide) rfl rfl (Nat.le_of_ble_eq_true rfl) ?_
  intro p e s m below meth c X I ls hl
  exact wX1_lambda_property_6_0 hX ⟨Nat.le_refl _, Nat.le_refl _⟩ X _ _ _ _ _ _ _ I hl hf
/-! SharedTaxis.lambda$property$7(LSharedTaxis$State;I)I imp=False fuel=False kap=False rt=I thr=False -/
def fX1_lambda_property_7 (σ : St) (x0 : Nat) (x1 : Int32) : Option Int32 := (gR σ x0 [(1, 6)]).bind fun v_1 : Option Nat => (v_1).bind fun a_2 : Nat => (isC σ a_2 21).bind fun u_3 : Unit => (fJ2_get σ a_2 x1).bind fun v_4 : Option Nat => (v_4).bind fun a_6 : Nat => (isC σ a_6 14).bind fun u_7 : Unit => (gI σ a_6 [(14, 12)]).bind fun v_8 : Int32 => some v_8
theorem wX1_lambda_property_7_0 {E : EV} {l : Launch} {p : Program} {e : Env} {s : State} {m : MethodId} {args : Array Value} {below : List Frame} {meth : Method} {c : Code} {R : Room} {σ : St} {res : Int32} (hX : XK E) (hR : 3 ≤ R.frames ∧ 64 ≤ R.locals) (X : MX E p s m args meth c cX1_lambda_property_7 2 (some .int) RX1 "lambda$property$7") : ∀ (x0 : Nat) (x1 : Int32) (H : Heap) (locs : List Loc) (cells slots : Nat) (ls : Array Slot), WI E R s σ H locs cells slots → lv_has ls 2 [(0, .ref x0), (1, .int x1)] → fX1_lambda_property_7 σ x0 x1 = some res → W p l e R s m args below meth c H locs cells slots (MQ below (Qd E R.cells R.slots (some (.int res)) σ) args s R.cells R.slots (fr E)) (F0 m 0 ls []) := by
  intro x0 x1 H locs cells slots ls I hl hf
  obtain ⟨⟨hx, hb, hml, hown, hts⟩, -⟩ := id X
  unfold fX1_lambda_property_7 at hf
  refine lv_aload_n hx hb dX1_lambda_property_7_0 rfl (lv_at hl 0 rfl) ?_
  obtain ⟨v_1, ev_1, hf⟩ := ob hf
  refine g_getN hX X I gfX1_146 (gR_in ev_1) dX1_lambda_property_7_1 ?_
  refine lv_iload_n hx hb dX1_lambda_property_7_4 rfl (lv_at hl 1 rfl) ?_
  obtain ⟨a_2, ea_2, hga_2⟩ := ob hf
  have hla_2 := hl
  have Ia_2 := I
  subst ea_2
  have hf := hga_2
  have hl := hla_2
  have I := Ia_2
  obtain ⟨u_3, eu_3, hf⟩ := ob hf
  obtain ⟨v_4, ev_4, hf⟩ := ob hf
  refine cg_F (vw := (RJ2, TJ2, 3)) (ci := 21) (r := (some (va_rf v_4))) (σ' := σ) (rs := [va_rf v_4]) (rest := []) (As := [.int x1]) hX X I eu_3 rfl (mJ2_get hX ev_4) lvX1_140_J2 hdX1_140_J2 ⟨Nat.le_trans (Nat.le_of_ble_eq_true rfl) hR.1, Nat.le_trans (Nat.le_of_ble_eq_true rfl) hR.2⟩ rfl hl.1 rfl (Nat.le_of_ble_eq_true rfl) rfl dX1_lambda_property_7_5 (fun H locs cells slots I => ?_)
  obtain ⟨a_6, ea_6, hga_6⟩ := ob hf
  have hla_6 := hl
  have Ia_6 := I
  subst ea_6
  have hf := hga_6
  have hl := hla_6
  have I := Ia_6
  obtain ⟨u_7, eu_7, hf⟩ := ob hf
  refine g_cast (vw := (RX16, TX16, 15)) X I rfl q800 eu_7 dX1_lambda_property_7_10 ?_
  obtain ⟨v_8, ev_8, hf⟩ := ob hf
  refine g_getN hX X I gfX1_342 (gI_in ev_8) dX1_lambda_property_7_13 ?_
  cases os hf
  exact r_iret X I dX1_lambda_property_7_16
theorem mX1_lambda_property_7 {E : EV} {l : Launch} {σ : St} {x0 : Nat} {x1 : Int32} {res : Int32} (hX : XK E) (hf : fX1_lambda_property_7 σ x0 x1 = some res) : CM E l yX1_lambda_property_7 (ws_ yX1_lambda_property_7 cX1_lambda_property_7 2 (some .int)) 3 64 [.ref x0, .int x1] σ (some (.int res)) σ := by
  refine CM.of hX.1 (by decide) rfl rfl (Nat.le_of_ble_eq_true rfl) ?_
  intro p e s m below meth c X I ls hl
  exact wX1_lambda_property_7_0 hX ⟨Nat.le_refl _, Nat.le_refl _⟩ X _ _ _ _ _ _ _ I hl hf
/-! SharedTaxis.lambda$property$8(LSharedTaxis$State;I)I imp=False fuel=False kap=False rt=I thr=False -/
def fX1_lambda_property_8 (σ : St) (x0 : Nat) (x1 : Int32) : Option Int32 := (gR σ x0 [(1, 6)]).bind fun v_1 : Option Nat => (v_1).bind fun a_2 : Nat => (isC σ a_2 21).bind fun u_3 : Unit => (fJ2_get σ a_2 x1).bind fun v_4 : Option Nat => (v_4).bind fun a_6 : Nat => (isC σ a_6 14).bind fun u_7 : Unit => (gI σ a_6 [(14, 9)]).bind fun v_8 : Int32 => some (v_8 + (1 : Int32))
theorem wX1_lambda_property_8_0 {E : EV} {l : Launch} {p : Program} {e : Env} {s : State} {m : MethodId} {args : Array Value} {below : List Frame} {meth : Method} {c : Code} {R : Room} {σ : St} {res : Int32} (hX : XK E) (hR : 3 ≤ R.frames ∧ 64 ≤ R.locals) (X : MX E p s m args meth c cX1_lambda_property_8 2 (some .int) RX1 "lambda$property$8") : ∀ (x0 : Nat) (x1 : Int32) (H : Heap) (locs : List Loc) (cells slots : Nat) (ls : Array Slot), WI E R s σ H locs cells slots → lv_has ls 2 [(0, .ref x0), (1, .int x1)] → fX1_lambda_property_8 σ x0 x1 = some res → W p l e R s m args below meth c H locs cells slots (MQ below (Qd E R.cells R.slots (some (.int res)) σ) args s R.cells R.slots (fr E)) (F0 m 0 ls []) := by
  intro x0 x1 H locs cells slots ls I hl hf
  obtain ⟨⟨hx, hb, hml, hown, hts⟩, -⟩ := id X
  unfold fX1_lambda_property_8 at hf
  refine lv_aload_n hx hb dX1_lambda_property_8_0 rfl (lv_at hl 0 rfl) ?_
  obtain ⟨v_1, ev_1, hf⟩ := ob hf
  refine g_getN hX X I gfX1_146 (gR_in ev_1) dX1_lambda_property_8_1 ?_
  refine lv_iload_n hx hb dX1_lambda_property_8_4 rfl (lv_at hl 1 rfl) ?_
  obtain ⟨a_2, ea_2, hga_2⟩ := ob hf
  have hla_2 := hl
  have Ia_2 := I
  subst ea_2
  have hf := hga_2
  have hl := hla_2
  have I := Ia_2
  obtain ⟨u_3, eu_3, hf⟩ := ob hf
  obtain ⟨v_4, ev_4, hf⟩ := ob hf
  refine cg_F (vw := (RJ2, TJ2, 3)) (ci := 21) (r := (some (va_rf v_4))) (σ' := σ) (rs := [va_rf v_4]) (rest := []) (As := [.int x1]) hX X I eu_3 rfl (mJ2_get hX ev_4) lvX1_140_J2 hdX1_140_J2 ⟨Nat.le_trans (Nat.le_of_ble_eq_true rfl) hR.1, Nat.le_trans (Nat.le_of_ble_eq_true rfl) hR.2⟩ rfl hl.1 rfl (Nat.le_of_ble_eq_true rfl) rfl dX1_lambda_property_8_5 (fun H locs cells slots I => ?_)
  obtain ⟨a_6, ea_6, hga_6⟩ := ob hf
  have hla_6 := hl
  have Ia_6 := I
  subst ea_6
  have hf := hga_6
  have hl := hla_6
  have I := Ia_6
  obtain ⟨u_7, eu_7, hf⟩ := ob hf
  refine g_cast (vw := (RX16, TX16, 15)) X I rfl q800 eu_7 dX1_lambda_property_8_10 ?_
  obtain ⟨v_8, ev_8, hf⟩ := ob hf
  refine g_getN hX X I gfX1_334 (gI_in ev_8) dX1_lambda_property_8_13 ?_
  refine lv_iconst (v := 1) hx hb dX1_lambda_property_8_16 (by decide) ?_
  refine lv_iadd hx hb dX1_lambda_property_8_17 ?_
  cases os hf
  exact r_iret X I dX1_lambda_property_8_18
theorem mX1_lambda_property_8 {E : EV} {l : Launch} {σ : St} {x0 : Nat} {x1 : Int32} {res : Int32} (hX : XK E) (hf : fX1_lambda_property_8 σ x0 x1 = some res) : CM E l yX1_lambda_property_8 (ws_ yX1_lambda_property_8 cX1_lambda_property_8 2 (some .int)) 3 64 [.ref x0, .int x1] σ (some (.int res)) σ := by
  refine CM.of hX.1 (by decide) rfl rfl (Nat.le_of_ble_eq_true rfl) ?_
  intro p e s m below meth c X I ls hl
  exact wX1_lambda_property_8_0 hX ⟨Nat.le_refl _, Nat.le_refl _⟩ X _ _ _ _ _ _ _ I hl hf
/-! SharedTaxis$QueryParser.enter()V imp=True fuel=True kap=True rt=None thr=True -/
theorem gfX21_68 : ∀ q ∈ ([(19, 3)] : List (Nat × Nat)), GF RX21 68 q := List.forall_mem_cons.mpr ⟨⟨RX21, TX21, 4, _, rfl, in_X21, by decide, q2656, Or.inl rfl⟩, fun _ h => by cases h⟩
theorem pfX21_68 : ∀ q ∈ ([(19, 3)] : List (Nat × Nat)), PF RX21 68 .int q := List.forall_mem_cons.mpr ⟨⟨RX21, TX21, 4, _, tyX21, rfl, in_X21, by decide, q2656, Or.inl rfl, tyX21_ok, nmX21, rfl, rfl⟩, fun _ h => by cases h⟩
theorem gfX21_9 : ∀ q ∈ ([(19, 0)] : List (Nat × Nat)), GF RX21 9 q := List.forall_mem_cons.mpr ⟨⟨RX21, TX21, 4, _, rfl, in_X21, by decide, q2651, Or.inl rfl⟩, fun _ h => by cases h⟩
theorem lvX21_32 : GoodIn lw_all (wsV RX21 32 RX6 yX6_advance (ws_ yX6_advance cX6_advance 1 none)) := lw_V q2483 q1222 q1223 q126 q1224
theorem hdX21_32 : yX6_advance.cls = RX6 ∧ yX6_advance.cls ≠ "java/lang/invoke/MethodHandle" ∧ yX6_advance.cls ≠ "java/lang/invoke/VarHandle" ∧ (parseMethodDescriptor yX6_advance.desc).map (fun d => d.parameters.length) = some 0 := by decide +kernel
theorem noX21_71 : NO RX21 71 8 7 [.int 0, .null, .null, .null, .null, .null, .int 0] := ⟨RX10, TX10, tyX10, rfl, in_X10, tyX10_ok, by decide, q2519, q1447, q143⟩
theorem gfX21_73 : ∀ q ∈ ([(5, 4)] : List (Nat × Nat)), GN RX21 73 q := List.forall_mem_cons.mpr ⟨⟨RX6, TX6, 8, _, rfl, in_X6, by decide, q1309⟩, fun _ h => by cases h⟩
theorem lvX21_76 : GoodIn lw_all (ws_ yX10_init cX10_init 2 none) ∧ Cond.initialized yX10_init.cls ∈ lw_all ∧ Cond.methodLink RX21 76 yX10_init ∈ lw_all ∧ Cond.instanceMethod yX10_init ∈ lw_all ∧ yX10_init.name = "<init>" := ⟨lw_meth q1457, q143, q2520, q1456, rfl⟩
theorem hdX21_76 : yX10_init.cls ≠ "java/lang/invoke/MethodHandle" ∧ yX10_init.cls ≠ "java/lang/invoke/VarHandle" ∧ (parseMethodDescriptor yX10_init.desc).map (fun d => d.parameters.length) = some 1 := by decide +kernel
def fX21_enter (N : Nat) (κ : Nat → Nat) (σ : St) (x0 : Nat) : Option ((Unit ⊕ Nat) × St) := (gI σ x0 [(19, 3)]).bind fun v_1 : Int32 => if v_1 = (6 : Int32) then (nH σ 7 (.inr (8, [.int 0, .null, .null, .null, .null, .null, .int 0]))).bind fun (q_9a, q_9s) => (gR q_9s x0 [(19, 0)]).bind fun v_10 : Option Nat => (v_10).bind fun a_11 : Nat => (gI q_9s a_11 [(5, 4)]).bind fun v_12 : Int32 => (fX10_init κ q_9s q_9a v_12).bind fun σ_14 : St => (isX σ_14 q_9a).bind fun u_15 : Unit => some (.inr q_9a, σ_14) else (gI σ x0 [(19, 3)]).bind fun v_2 : Int32 => (pV σ x0 [(19, 3)] (.int (v_2 + (1 : Int32)))).bind fun σ_3 : St => (gR σ_3 x0 [(19, 0)]).bind fun v_4 : Option Nat => (v_4).bind fun a_5 : Nat => (isC σ_3 a_5 5).bind fun u_6 : Unit => (fX6_advance N κ σ_3 a_5).bind fun σ_8 : St => some (.inl (), σ_8)
theorem wX21_enter_0 {E : EV} {l : Launch} {p : Program} {e : Env} {s : State} {m : MethodId} {args : Array Value} {below : List Frame} {meth : Method} {c : Code} {R : Room} {res : ((Unit ⊕ Nat) × St)} (hX : XK E) (hR : 10 ≤ R.frames ∧ 224 ≤ R.locals) (X : MX E p s m args meth c cX21_enter 1 none RX21 "enter") (XH : MH c []) (N : Nat) : ∀ (x0 : Nat) (σ : St) (H : Heap) (locs : List Loc) (cells slots : Nat) (ls : Array Slot), WI E R s σ H locs cells slots → lv_has ls 1 [(0, .ref x0)] → fX21_enter N E.2.2.2.1 σ x0 = some res → W p l e R s m args below meth c H locs cells slots (vx_MQ below (QS E R.cells R.slots (sv (fun v => none) res.1) res.2) (XS E R.cells R.slots (sx res.1) res.2) args s R.cells R.slots (fr E)) (F0 m 0 ls []) := by
  intro x0 σ H locs cells slots ls I hl hf
  obtain ⟨⟨hx, hb, hml, hown, hts⟩, -⟩ := id X
  unfold fX21_enter at hf
  refine lv_aload_n hx hb dX21_enter_0 rfl (lv_at hl 0 rfl) ?_
  obtain ⟨v_1, ev_1, hf⟩ := ob hf
  refine g_get X I gfX21_68 (gI_in ev_1) dX21_enter_1 ?_
  refine lv_bipush (v := 6) hx hb dX21_enter_4 (by decide) ?_
  refine lv_icmp_ne (tgt := 24) hx hb dX21_enter_6 (by decide) (fun c_6 => ?_) (fun c_6 => ?_)
  · have hf := im c_6 hf
    refine lv_aload_n hx hb dX21_enter_24 rfl (lv_at hl 0 rfl) ?_
    refine lv_dup hx hb dX21_enter_25 rfl ?_
    obtain ⟨v_2, ev_2, hf⟩ := ob hf
    refine g_get X I gfX21_68 (gI_in ev_2) dX21_enter_26 ?_
    refine lv_iconst (v := 1) hx hb dX21_enter_29 (by decide) ?_
    refine lv_iadd hx hb dX21_enter_30 ?_
    obtain ⟨σ_3, eσ_3, hf⟩ := ob hf
    refine g_put X I pfX21_68 rfl rfl eσ_3 dX21_enter_31 (fun H locs I => ?_)
    refine lv_aload_n hx hb dX21_enter_34 rfl (lv_at hl 0 rfl) ?_
    obtain ⟨v_4, ev_4, hf⟩ := ob hf
    refine g_get X I gfX21_9 (gR_in ev_4) dX21_enter_35 ?_
    obtain ⟨a_5, ea_5, hga_5⟩ := ob hf
    have hla_5 := hl
    have Ia_5 := I
    subst ea_5
    have hf := hga_5
    have hl := hla_5
    have I := Ia_5
    obtain ⟨u_6, eu_6, hf⟩ := ob hf
    obtain ⟨σ_8, ev_7, hf⟩ := ob hf
    refine cg_V (vw := (RX6, TX6, 8)) (ci := 5) (r := none) (σ' := σ_8) (rs := []) (rest := []) (As := []) X I eu_6 rfl (mX6_advance hX ev_7) lvX21_32 hdX21_32 ⟨Nat.le_trans (Nat.le_of_ble_eq_true rfl) hR.1, Nat.le_trans (Nat.le_of_ble_eq_true rfl) hR.2⟩ rfl hl.1 rfl (Nat.le_of_ble_eq_true rfl) rfl dX21_enter_38 (fun H locs cells slots I => ?_)
    cases os hf
    exact x_ret (r_vret X I dX21_enter_41)
  · have hf := ip c_6 hf
    obtain ⟨⟨q_9a, q_9s⟩, eq_9, hf⟩ := ob hf
    refine g_new X I noX21_71 eq_9 dX21_enter_9 (fun H locs cells slots I => ?_)
    refine lv_dup hx hb dX21_enter_12 rfl ?_
    refine lv_aload_n hx hb dX21_enter_13 rfl (lv_at hl 0 rfl) ?_
    obtain ⟨v_10, ev_10, hf⟩ := ob hf
    refine g_get X I gfX21_9 (gR_in ev_10) dX21_enter_14 ?_
    obtain ⟨a_11, ea_11, hga_11⟩ := ob hf
    have hla_11 := hl
    have Ia_11 := I
    subst ea_11
    have hf := hga_11
    have hl := hla_11
    have I := Ia_11
    obtain ⟨v_12, ev_12, hf⟩ := ob hf
    refine g_getN hX X I gfX21_73 (gI_in ev_12) dX21_enter_17 ?_
    obtain ⟨σ_14, ev_13, hf⟩ := ob hf
    refine cm_I (σ' := σ_14) (rs := [.ref q_9a]) (rest := [.ref q_9a]) (As := [.int v_12]) X I (mX10_init hX ev_13) lvX21_76 hdX21_76 ⟨Nat.le_trans (Nat.le_of_ble_eq_true rfl) hR.1, Nat.le_trans (Nat.le_of_ble_eq_true rfl) hR.2⟩ rfl hl.1 rfl (Nat.le_of_ble_eq_true rfl) rfl dX21_enter_20 (fun H locs cells slots I => ?_)
    obtain ⟨u_15, eu_15, hf⟩ := ob hf
    cases os hf
    exact x_athrow X XH rfl I eu_15 dX21_enter_23
theorem mX21_enter {E : EV} {l : Launch} {N : Nat} {σ : St} {x0 : Nat} {res : ((Unit ⊕ Nat) × St)} (hX : XK E) (hf : fX21_enter N E.2.2.2.1 σ x0 = some res) : CX E l yX21_enter (ws_ yX21_enter cX21_enter 1 none) 10 224 [.ref x0] σ (sv (fun v => none) res.1) (sx res.1) res.2 := by
  refine CX.of hX.1 (by decide) rfl rfl (Nat.le_of_ble_eq_true rfl) ?_
  intro p e s m below meth c X XH I ls hl
  exact wX21_enter_0 hX ⟨Nat.le_refl _, Nat.le_refl _⟩ X XH N _ _ _ _ _ _ _ I hl hf
/-! SharedTaxis$QueryParser.lambda$value$2(ILSharedTaxis$State;I)I imp=False fuel=False kap=False rt=I thr=False -/
def fX21_lambda_value_2 (σ : St) (x0 : Int32) (x1 : Nat) (x2 : Int32) : Option Int32 := some x0
theorem wX21_lambda_value_2_0 {E : EV} {l : Launch} {p : Program} {e : Env} {s : State} {m : MethodId} {args : Array Value} {below : List Frame} {meth : Method} {c : Code} {R : Room} {σ : St} {res : Int32} (hX : XK E) (hR : 0 ≤ R.frames ∧ 0 ≤ R.locals) (X : MX E p s m args meth c cX21_lambda_value_2 3 (some .int) RX21 "lambda$value$2") : ∀ (x0 : Int32) (x1 : Nat) (x2 : Int32) (H : Heap) (locs : List Loc) (cells slots : Nat) (ls : Array Slot), WI E R s σ H locs cells slots → lv_has ls 3 [(0, .int x0), (1, .ref x1), (2, .int x2)] → fX21_lambda_value_2 σ x0 x1 x2 = some res → W p l e R s m args below meth c H locs cells slots (MQ below (Qd E R.cells R.slots (some (.int res)) σ) args s R.cells R.slots (fr E)) (F0 m 0 ls []) := by
  intro x0 x1 x2 H locs cells slots ls I hl hf
  obtain ⟨⟨hx, hb, hml, hown, hts⟩, -⟩ := id X
  unfold fX21_lambda_value_2 at hf
  refine lv_iload_n hx hb dX21_lambda_value_2_0 rfl (lv_at hl 0 rfl) ?_
  cases os hf
  exact r_iret X I dX21_lambda_value_2_1
theorem mX21_lambda_value_2 {E : EV} {l : Launch} {σ : St} {x0 : Int32} {x1 : Nat} {x2 : Int32} {res : Int32} (hX : XK E) (hf : fX21_lambda_value_2 σ x0 x1 x2 = some res) : CM E l yX21_lambda_value_2 (ws_ yX21_lambda_value_2 cX21_lambda_value_2 3 (some .int)) 0 0 [.int x0, .ref x1, .int x2] σ (some (.int res)) σ := by
  refine CM.of hX.1 (by decide) rfl rfl (Nat.le_of_ble_eq_true rfl) ?_
  intro p e s m below meth c X I ls hl
  exact wX21_lambda_value_2_0 hX ⟨Nat.le_refl _, Nat.le_refl _⟩ X _ _ _ _ _ _ _ _ I hl hf
/-! SharedTaxis$Tests.<init>(Z)V imp=True fuel=False kap=False rt=None thr=False -/
theorem pfX22_9 : ∀ q ∈ ([(20, 1)] : List (Nat × Nat)), PF RX22 9 (.array (.object "SharedTaxis$Test")) q := List.forall_mem_cons.mpr ⟨⟨RX22, TX22, 3, _, tyX22, rfl, in_X22, by decide, q2497, Or.inl rfl, tyX22_ok, nmX22, rfl, rfl⟩, fun _ h => by cases h⟩
theorem pfX22_15 : ∀ q ∈ ([(20, 0)] : List (Nat × Nat)), PI RX22 15 .boolean q := List.forall_mem_cons.mpr ⟨⟨RX22, TX22, 3, tyX22, rfl, in_X22, by decide, q2496, rfl, tyX22_ok, nmX22, rfl, rfl⟩, fun _ h => by cases h⟩
def fX22_init (σ : St) (x0 : Nat) (x1 : Int32) : Option St := (an (2 : Int32)).bind fun k_1 : Nat => (nH σ k_1 (.inl (4, k_1, .inr (.inr (.inr (.inr fun _ => none)))))).bind fun (q_2a, q_2s) => (pV q_2s x0 [(20, 1)] (.ref q_2a)).bind fun σ_3 : St => if ¬ (x1 = 0 ∨ x1 = 1) then none else (pV σ_3 x0 [(20, 0)] (.int x1)).bind fun σ_4 : St => some σ_4
theorem wX22_init_0 {E : EV} {l : Launch} {p : Program} {e : Env} {s : State} {m : MethodId} {args : Array Value} {below : List Frame} {meth : Method} {c : Code} {R : Room} {res : St} (hX : XK E) (hR : 1 ≤ R.frames ∧ 20 ≤ R.locals) (X : MX E p s m args meth c cX22_init 2 none RX22 "<init>") : ∀ (x0 : Nat) (x1 : Int32) (σ : St) (H : Heap) (locs : List Loc) (cells slots : Nat) (ls : Array Slot), WI E R s σ H locs cells slots → lv_has ls 2 [(0, .ref x0), (1, .int x1)] → fX22_init σ x0 x1 = some res → W p l e R s m args below meth c H locs cells slots (MQ below (Qd E R.cells R.slots none res) args s R.cells R.slots (fr E)) (F0 m 0 ls []) := by
  intro x0 x1 σ H locs cells slots ls I hl hf
  obtain ⟨⟨hx, hb, hml, hown, hts⟩, -⟩ := id X
  unfold fX22_init at hf
  refine lv_aload_n hx hb dX22_init_0 rfl (lv_at hl 0 rfl) ?_
  refine g_objInit X ⟨Nat.le_trans (Nat.le_of_ble_eq_true rfl) hR.1, Nat.le_trans (Nat.le_of_ble_eq_true rfl) hR.2⟩ q2493 hl.1 (Nat.le_of_ble_eq_true rfl) dX22_init_1 ?_
  refine lv_aload_n hx hb dX22_init_4 rfl (lv_at hl 0 rfl) ?_
  refine lv_iconst (v := 2) hx hb dX22_init_5 (by decide) ?_
  obtain ⟨k_1, ek_1, hf⟩ := ob hf
  obtain ⟨⟨q_2a, q_2s⟩, eq_2, hf⟩ := ob hf
  refine g_anew (t := 4) hX X I (by decide) q2494 ek_1 eq_2 dX22_init_6 (fun H locs cells slots I => ?_)
  obtain ⟨σ_3, eσ_3, hf⟩ := ob hf
  refine g_put X I pfX22_9 rfl rfl eσ_3 dX22_init_9 (fun H locs I => ?_)
  refine lv_aload_n hx hb dX22_init_12 rfl (lv_at hl 0 rfl) ?_
  refine lv_iload_n hx hb dX22_init_13 rfl (lv_at hl 1 rfl) ?_
  by_cases d_14 : ¬ (x1 = 0 ∨ x1 = 1)
  · exact nomatch (ip d_14 hf)
  have hf := im d_14 hf
  have c_14 := Decidable.not_not.mp d_14
  obtain ⟨σ_4, eσ_4, hf⟩ := ob hf
  refine g_putI X I pfX22_15 (z_nar c_14) (z_fit c_14) eσ_4 dX22_init_14 (fun H locs I => ?_)
  cases os hf
  exact r_vret X I dX22_init_17
theorem mX22_init {E : EV} {l : Launch} {σ : St} {x0 : Nat} {x1 : Int32} {res : St} (hX : XK E) (hf : fX22_init σ x0 x1 = some res) : CM E l yX22_init (ws_ yX22_init cX22_init 2 none) 1 20 [.ref x0, .int x1] σ none res := by
  refine CM.of hX.1 (by decide) rfl rfl (Nat.le_of_ble_eq_true rfl) ?_
  intro p e s m below meth c X I ls hl
  exact wX22_init_0 hX ⟨Nat.le_refl _, Nat.le_refl _⟩ X _ _ _ _ _ _ _ _ I hl hf
/-! SharedTaxis$Tests.add(LSharedTaxis$Test;)V imp=True fuel=False kap=False rt=None thr=False -/
theorem gfX22_9 : ∀ q ∈ ([(20, 1)] : List (Nat × Nat)), GF RX22 9 q := List.forall_mem_cons.mpr ⟨⟨RX22, TX22, 3, _, rfl, in_X22, by decide, q2497, Or.inl rfl⟩, fun _ h => by cases h⟩
theorem gfX22_19 : ∀ q ∈ ([(20, 2)] : List (Nat × Nat)), GF RX22 19 q := List.forall_mem_cons.mpr ⟨⟨RX22, TX22, 3, _, rfl, in_X22, by decide, q2498, Or.inl rfl⟩, fun _ h => by cases h⟩
theorem pfX22_19 : ∀ q ∈ ([(20, 2)] : List (Nat × Nat)), PF RX22 19 .int q := List.forall_mem_cons.mpr ⟨⟨RX22, TX22, 3, _, tyX22, rfl, in_X22, by decide, q2498, Or.inl rfl, tyX22_ok, nmX22, rfl, rfl⟩, fun _ h => by cases h⟩
def fX22_add_41 (x0 : Nat) (x1 : Nat) (σ : St) : Option St := (gR σ x0 [(20, 1)]).bind fun v_1 : Option Nat => (gI σ x0 [(20, 2)]).bind fun v_2 : Int32 => (v_1).bind fun a_3 : Nat => (sR σ a_3 3 v_2 (some x1)).bind fun σ_4 : St => (gI σ_4 x0 [(20, 2)]).bind fun v_5 : Int32 => (pV σ_4 x0 [(20, 2)] (.int (v_5 + (1 : Int32)))).bind fun σ_6 : St => some σ_6
def fX22_add (σ : St) (x0 : Nat) (x1 : Nat) : Option St := (gI σ x0 [(20, 2)]).bind fun v_7 : Int32 => (gR σ x0 [(20, 1)]).bind fun v_8 : Option Nat => (v_8).bind fun a_9 : Nat => (aL σ a_9).bind fun v_10 : Int32 => if v_7 = v_10 then (gI σ x0 [(20, 2)]).bind fun v_11 : Int32 => (an ((2 : Int32) * v_11)).bind fun k_12 : Nat => (nH σ k_12 (.inl (4, k_12, .inr (.inr (.inr (.inr fun _ => none)))))).bind fun (q_13a, q_13s) => (gR q_13s x0 [(20, 1)]).bind fun v_14 : Option Nat => (gI q_13s x0 [(20, 2)]).bind fun v_15 : Int32 => (v_14).bind fun a_16 : Nat => (cpR q_13s a_16 4 (0 : Int32) q_13a (0 : Int32) v_15).bind fun σ_17 : St => (pV σ_17 x0 [(20, 1)] (.ref q_13a)).bind fun σ_18 : St => fX22_add_41 x0 x1 σ_18 else fX22_add_41 x0 x1 σ
theorem wX22_add_41 {E : EV} {l : Launch} {p : Program} {e : Env} {s : State} {m : MethodId} {args : Array Value} {below : List Frame} {meth : Method} {c : Code} {R : Room} {res : St} (hX : XK E) (hR : 1 ≤ R.frames ∧ 40 ≤ R.locals) (X : MX E p s m args meth c cX22_add 3 none RX22 "add") : ∀ (x0 : Nat) (x1 : Nat) (σ : St) (H : Heap) (locs : List Loc) (cells slots : Nat) (ls : Array Slot), WI E R s σ H locs cells slots → lv_has ls 3 [(0, .ref x0), (1, .ref x1)] → fX22_add_41 x0 x1 σ = some res → W p l e R s m args below meth c H locs cells slots (MQ below (Qd E R.cells R.slots none res) args s R.cells R.slots (fr E)) (F0 m 41 ls []) := by
  intro x0 x1 σ H locs cells slots ls I hl hf
  obtain ⟨⟨hx, hb, hml, hown, hts⟩, -⟩ := id X
  unfold fX22_add_41 at hf
  refine lv_aload_n hx hb dX22_add_41 rfl (lv_at hl 0 rfl) ?_
  obtain ⟨v_1, ev_1, hf⟩ := ob hf
  refine g_get X I gfX22_9 (gR_in ev_1) dX22_add_42 ?_
  refine lv_aload_n hx hb dX22_add_45 rfl (lv_at hl 0 rfl) ?_
  obtain ⟨v_2, ev_2, hf⟩ := ob hf
  refine g_get X I gfX22_19 (gI_in ev_2) dX22_add_46 ?_
  refine lv_aload_n hx hb dX22_add_49 rfl (lv_at hl 1 rfl) ?_
  obtain ⟨a_3, ea_3, hga_3⟩ := ob hf
  have hla_3 := hl
  have Ia_3 := I
  subst ea_3
  have hf := hga_3
  have hl := hla_3
  have I := Ia_3
  obtain ⟨σ_4, eσ_4, hf⟩ := ob hf
  refine g_aast (v := (some x1)) hX X I (by decide) eσ_4 dX22_add_50 (fun H locs I => ?_)
  refine lv_aload_n hx hb dX22_add_51 rfl (lv_at hl 0 rfl) ?_
  refine lv_dup hx hb dX22_add_52 rfl ?_
  obtain ⟨v_5, ev_5, hf⟩ := ob hf
  refine g_get X I gfX22_19 (gI_in ev_5) dX22_add_53 ?_
  refine lv_iconst (v := 1) hx hb dX22_add_56 (by decide) ?_
  refine lv_iadd hx hb dX22_add_57 ?_
  obtain ⟨σ_6, eσ_6, hf⟩ := ob hf
  refine g_put X I pfX22_19 rfl rfl eσ_6 dX22_add_58 (fun H locs I => ?_)
  cases os hf
  exact r_vret X I dX22_add_61
theorem wX22_add_0 {E : EV} {l : Launch} {p : Program} {e : Env} {s : State} {m : MethodId} {args : Array Value} {below : List Frame} {meth : Method} {c : Code} {R : Room} {res : St} (hX : XK E) (hR : 1 ≤ R.frames ∧ 40 ≤ R.locals) (X : MX E p s m args meth c cX22_add 3 none RX22 "add") : ∀ (x0 : Nat) (x1 : Nat) (σ : St) (H : Heap) (locs : List Loc) (cells slots : Nat) (ls : Array Slot), WI E R s σ H locs cells slots → lv_has ls 3 [(0, .ref x0), (1, .ref x1)] → fX22_add σ x0 x1 = some res → W p l e R s m args below meth c H locs cells slots (MQ below (Qd E R.cells R.slots none res) args s R.cells R.slots (fr E)) (F0 m 0 ls []) := by
  intro x0 x1 σ H locs cells slots ls I hl hf
  obtain ⟨⟨hx, hb, hml, hown, hts⟩, -⟩ := id X
  unfold fX22_add at hf
  refine lv_aload_n hx hb dX22_add_0 rfl (lv_at hl 0 rfl) ?_
  obtain ⟨v_7, ev_7, hf⟩ := ob hf
  refine g_get X I gfX22_19 (gI_in ev_7) dX22_add_1 ?_
  refine lv_aload_n hx hb dX22_add_4 rfl (lv_at hl 0 rfl) ?_
  obtain ⟨v_8, ev_8, hf⟩ := ob hf
  refine g_get X I gfX22_9 (gR_in ev_8) dX22_add_5 ?_
  obtain ⟨a_9, ea_9, hga_9⟩ := ob hf
  have hla_9 := hl
  have Ia_9 := I
  subst ea_9
  have hf := hga_9
  have hl := hla_9
  have I := Ia_9
  obtain ⟨v_10, ev_10, hf⟩ := ob hf
  refine g_alen X I ev_10 dX22_add_8 ?_
  refine lv_icmp_ne (tgt := 41) hx hb dX22_add_9 (by decide) (fun c_9 => ?_) (fun c_9 => ?_)
  · have hf := im c_9 hf
    exact wX22_add_41 hX hR X x0 x1 σ _ _ _ _ _ I (lv_sub hl [0, 1] rfl) hf
  · have hf := ip c_9 hf
    refine lv_iconst (v := 2) hx hb dX22_add_12 (by decide) ?_
    refine lv_aload_n hx hb dX22_add_13 rfl (lv_at hl 0 rfl) ?_
    obtain ⟨v_11, ev_11, hf⟩ := ob hf
    refine g_get X I gfX22_19 (gI_in ev_11) dX22_add_14 ?_
    refine lv_imul hx hb dX22_add_17 ?_
    obtain ⟨k_12, ek_12, hf⟩ := ob hf
    obtain ⟨⟨q_13a, q_13s⟩, eq_13, hf⟩ := ob hf
    refine g_anew (t := 4) hX X I (by decide) q2494 ek_12 eq_13 dX22_add_18 (fun H locs cells slots I => ?_)
    refine lv_astore_n (lv' := [(2, .ref q_13a), (0, .ref x0), (1, .ref x1)]) hx hb dX22_add_21 rfl hl (by decide) rfl (fun ls hl => ?_)
    refine lv_aload_n hx hb dX22_add_22 rfl (lv_at hl 1 rfl) ?_
    obtain ⟨v_14, ev_14, hf⟩ := ob hf
    refine g_get X I gfX22_9 (gR_in ev_14) dX22_add_23 ?_
    refine lv_iconst (v := 0) hx hb dX22_add_26 (by decide) ?_
    refine lv_aload_n hx hb dX22_add_27 rfl (lv_at hl 0 rfl) ?_
    refine lv_iconst (v := 0) hx hb dX22_add_28 (by decide) ?_
    refine lv_aload_n hx hb dX22_add_29 rfl (lv_at hl 1 rfl) ?_
    obtain ⟨v_15, ev_15, hf⟩ := ob hf
    refine g_get X I gfX22_19 (gI_in ev_15) dX22_add_30 ?_
    obtain ⟨a_16, ea_16, hga_16⟩ := ob hf
    have hla_16 := hl
    have Ia_16 := I
    subst ea_16
    have hf := hga_16
    have hl := hla_16
    have I := Ia_16
    obtain ⟨σ_17, eσ_17, hf⟩ := ob hf
    refine g_copyR hX X I (by decide) q2647 eσ_17 hl.1 ⟨Nat.le_trans (Nat.le_of_ble_eq_true rfl) hR.1, Nat.le_trans (Nat.le_of_ble_eq_true rfl) hR.2⟩ (Nat.le_of_ble_eq_true rfl) dX22_add_33 (fun H locs I => ?_)
    refine lv_aload_n hx hb dX22_add_36 rfl (lv_at hl 1 rfl) ?_
    refine lv_aload_n hx hb dX22_add_37 rfl (lv_at hl 0 rfl) ?_
    obtain ⟨σ_18, eσ_18, hf⟩ := ob hf
    refine g_put X I pfX22_9 rfl rfl eσ_18 dX22_add_38 (fun H locs I => ?_)
    exact wX22_add_41 hX hR X x0 x1 σ_18 _ _ _ _ _ I (lv_sub hl [1, 2] rfl) hf
theorem mX22_add {E : EV} {l : Launch} {σ : St} {x0 : Nat} {x1 : Nat} {res : St} (hX : XK E) (hf : fX22_add σ x0 x1 = some res) : CM E l yX22_add (ws_ yX22_add cX22_add 3 none) 1 40 [.ref x0, .ref x1] σ none res := by
  refine CM.of hX.1 (by decide) rfl rfl (Nat.le_of_ble_eq_true rfl) ?_
  intro p e s m below meth c X I ls hl
  exact wX22_add_0 hX ⟨Nat.le_refl _, Nat.le_refl _⟩ X _ _ _ _ _ _ _ _ I hl hf
