/-! walks over the abstract heap (printed by gen/gwalk.py) -/
set_option maxRecDepth 100000
/-! SharedTaxis$Search.isBetter(LSharedTaxis$Taxi;LSharedTaxis$Stop;I)Z imp=True fuel=True kap=False rt=I thr=False -/
theorem pfX14_83 : ∀ q ∈ ([(12, 3)] : List (Nat × Nat)), PF RX14 83 .int q := List.forall_mem_cons.mpr ⟨⟨RX14, TX14, 8, _, tyX14, rfl, in_X14, by decide, q1779, Or.inl rfl, tyX14_ok, nmX14, rfl, rfl⟩, fun _ h => by cases h⟩
theorem pfX14_86 : ∀ q ∈ ([(12, 4)] : List (Nat × Nat)), PF RX14 86 .int q := List.forall_mem_cons.mpr ⟨⟨RX14, TX14, 8, _, tyX14, rfl, in_X14, by decide, q1782, Or.inl rfl, tyX14_ok, nmX14, rfl, rfl⟩, fun _ h => by cases h⟩
theorem gfX14_27 : ∀ q ∈ ([(12, 1)] : List (Nat × Nat)), GF RX14 27 q := List.forall_mem_cons.mpr ⟨⟨RX14, TX14, 8, _, rfl, in_X14, by decide, q1776, Or.inl rfl⟩, fun _ h => by cases h⟩
theorem lvX14_66 : GoodIn lw_all (wsV RX14 66 RX13 yX13_goesOn (ws_ yX13_goesOn cX13_goesOn 1 (some .boolean))) := lw_V q1886 q1839 q1840 q149 q1841
theorem hdX14_66 : yX13_goesOn.cls = RX13 ∧ yX13_goesOn.cls ≠ "java/lang/invoke/MethodHandle" ∧ yX13_goesOn.cls ≠ "java/lang/invoke/VarHandle" ∧ (parseMethodDescriptor yX13_goesOn.desc).map (fun d => d.parameters.length) = some 0 := by decide +kernel
theorem gfX14_83 : ∀ q ∈ ([(12, 3)] : List (Nat × Nat)), GF RX14 83 q := List.forall_mem_cons.mpr ⟨⟨RX14, TX14, 8, _, rfl, in_X14, by decide, q1779, Or.inl rfl⟩, fun _ h => by cases h⟩
theorem gfX14_86 : ∀ q ∈ ([(12, 4)] : List (Nat × Nat)), GF RX14 86 q := List.forall_mem_cons.mpr ⟨⟨RX14, TX14, 8, _, rfl, in_X14, by decide, q1782, Or.inl rfl⟩, fun _ h => by cases h⟩
theorem lvX14_69 : GoodIn lw_all (wsV RX14 69 RX13 yX13_next (ws_ yX13_next cX13_next 2 none)) := lw_V q1887 q1722 q1723 q149 q1724
theorem hdX14_69 : yX13_next.cls = RX13 ∧ yX13_next.cls ≠ "java/lang/invoke/MethodHandle" ∧ yX13_next.cls ≠ "java/lang/invoke/VarHandle" ∧ (parseMethodDescriptor yX13_next.desc).map (fun d => d.parameters.length) = some 0 := by decide +kernel
theorem gfX14_72 : ∀ q ∈ ([(11, 9)] : List (Nat × Nat)), GN RX14 72 q := List.forall_mem_cons.mpr ⟨⟨RX13, TX13, 17, _, rfl, in_X13, by decide, q1655⟩, fun _ h => by cases h⟩
theorem gfX14_76 : ∀ q ∈ ([(11, 7)] : List (Nat × Nat)), GN RX14 76 q := List.forall_mem_cons.mpr ⟨⟨RX13, TX13, 17, _, rfl, in_X13, by decide, q1649⟩, fun _ h => by cases h⟩
theorem gfX14_80 : ∀ q ∈ ([(11, 11)] : List (Nat × Nat)), GN RX14 80 q := List.forall_mem_cons.mpr ⟨⟨RX13, TX13, 17, _, rfl, in_X13, by decide, q1662⟩, fun _ h => by cases h⟩
theorem lvX14_58 : GoodIn lw_all (wsV RX14 58 RX13 yX13_begin (ws_ yX13_begin cX13_begin 4 (some (.object "SharedTaxis$Walk")))) := lw_V q1833 q1710 q1711 q149 q1712
theorem hdX14_58 : yX13_begin.cls = RX13 ∧ yX13_begin.cls ≠ "java/lang/invoke/MethodHandle" ∧ yX13_begin.cls ≠ "java/lang/invoke/VarHandle" ∧ (parseMethodDescriptor yX13_begin.desc).map (fun d => d.parameters.length) = some 2 := by decide +kernel
theorem lvX14_62 : GoodIn lw_all (wsV RX14 62 RX13 yX13_keeps (ws_ yX13_keeps cX13_keeps 1 (some .boolean))) := lw_V q1868 q1869 q1870 q149 q1871
theorem hdX14_62 : yX13_keeps.cls = RX13 ∧ yX13_keeps.cls ≠ "java/lang/invoke/MethodHandle" ∧ yX13_keeps.cls ≠ "java/lang/invoke/VarHandle" ∧ (parseMethodDescriptor yX13_keeps.desc).map (fun d => d.parameters.length) = some 0 := by decide +kernel
def fX14_isBetter_140 (N : Nat) (x0 : Nat) (x3 : Int32) (x4 : Int32) (x5 : Int32) (y0 : Int32) (σ : St) : Option (Int32 × St) := if y0 = 0 then if y0 = 0 ∨ y0 = 1 then some (y0, σ) else none else (pV σ x0 [(12, 3)] (.int (x4 - x3))).bind fun σ_1 : St => (pV σ_1 x0 [(12, 4)] (.int x5)).bind fun σ_2 : St => if y0 = 0 ∨ y0 = 1 then some (y0, σ_2) else none
def fX14_isBetter_139 (N : Nat) (x0 : Nat) (x3 : Int32) (x4 : Int32) (x5 : Int32) (σ : St) : Option (Int32 × St) := fX14_isBetter_140 N x0 x3 x4 x5 (0 : Int32) σ
def fX14_isBetter_135 (N : Nat) (x0 : Nat) (x3 : Int32) (x4 : Int32) (x5 : Int32) (σ : St) : Option (Int32 × St) := fX14_isBetter_140 N x0 x3 x4 x5 (1 : Int32) σ
def fX14_isBetter_91 (N : Nat) (r39 : Nat → Nat → Int32 → Int32 → Int32 → St → Option (Int32 × St)) (x0 : Nat) (x2 : Nat) (x3 : Int32) (x4 : Int32) (y0 : Int32) (σ : St) : Option (Int32 × St) := r39 x0 x2 x3 x4 y0 σ
def fX14_isBetter_39 (N : Nat) : Nat → Nat → Nat → Int32 → Int32 → Int32 → St → Option (Int32 × St)
  | 0, _, _, _, _, _, _ => none
  | n + 1, x0, x2, x3, x4, x5, σ => (gR σ x0 [(12, 1)]).bind fun v_3 : Option Nat => (v_3).bind fun a_4 : Nat => (isC σ a_4 11).bind fun u_5 : Unit => (fX13_goesOn σ a_4).bind fun v_6 : Int32 => if v_6 = 0 then (gI σ x0 [(12, 3)]).bind fun v_8 : Int32 => if v_8 = (-1 : Int32) then fX14_isBetter_135 N x0 x3 x4 x5 σ else (gI σ x0 [(12, 3)]).bind fun v_9 : Int32 => if (x4 - x3) < v_9 then fX14_isBetter_135 N x0 x3 x4 x5 σ else (gI σ x0 [(12, 3)]).bind fun v_10 : Int32 => if (x4 - x3) = v_10 then (gI σ x0 [(12, 4)]).bind fun v_11 : Int32 => if v_11 ≤ x5 then fX14_isBetter_139 N x0 x3 x4 x5 σ else fX14_isBetter_135 N x0 x3 x4 x5 σ else fX14_isBetter_139 N x0 x3 x4 x5 σ else (gR σ x0 [(12, 1)]).bind fun v_12 : Option Nat => (v_12).bind fun a_13 : Nat => (isC σ a_13 11).bind fun u_14 : Unit => (fX13_next σ a_13).bind fun σ_16 : St => (gR σ_16 x0 [(12, 1)]).bind fun v_17 : Option Nat => (v_17).bind fun a_18 : Nat => (gI σ_16 a_18 [(11, 9)]).bind fun v_19 : Int32 => lt (x4 + v_19) fun x4_20 : Int32 => (gR σ_16 x0 [(12, 1)]).bind fun v_21 : Option Nat => (v_21).bind fun a_22 : Nat => (gR σ_16 a_22 [(11, 7)]).bind fun v_23 : Option Nat => if v_23 = (some x2) then (gR σ_16 x0 [(12, 1)]).bind fun v_24 : Option Nat => (v_24).bind fun a_25 : Nat => (gI σ_16 a_25 [(11, 11)]).bind fun v_26 : Int32 => fX14_isBetter_91 N (fX14_isBetter_39 N n) x0 x2 x3 x4_20 v_26 σ_16 else fX14_isBetter_91 N (fX14_isBetter_39 N n) x0 x2 x3 x4_20 x5 σ_16
def fX14_isBetter (N : Nat) (σ : St) (x0 : Nat) (x1 : Nat) (x2 : Nat) (x3 : Int32) : Option (Int32 × St) := (gR σ x0 [(12, 1)]).bind fun v_27 : Option Nat => (gR σ x0 [(12, 2)]).bind fun v_28 : Option Nat => (v_28).bind fun a_29 : Nat => (v_27).bind fun a_30 : Nat => (isC σ a_30 11).bind fun u_31 : Unit => (fX13_begin N σ a_30 x1 a_29).bind fun (v_32, σ_33) => (isC σ_33 v_32 11).bind fun u_34 : Unit => (fX13_keeps N σ_33 v_32).bind fun (v_35, σ_36) => if v_35 = 0 then some ((0 : Int32), σ_36) else (gR σ_36 x0 [(12, 1)]).bind fun v_37 : Option Nat => (gR σ_36 x0 [(12, 2)]).bind fun v_38 : Option Nat => (v_38).bind fun a_39 : Nat => (v_37).bind fun a_40 : Nat => (isC σ_36 a_40 11).bind fun u_41 : Unit => (fX13_begin N σ_36 a_40 x1 a_39).bind fun (v_42, σ_43) => fX14_isBetter_39 N N x0 x2 x3 (0 : Int32) (0 : Int32) σ_43
theorem wX14_isBetter_140 {E : EV} {l : Launch} {p : Program} {e : Env} {s : State} {m : MethodId} {args : Array Value} {below : List Frame} {meth : Method} {c : Code} {R : Room} {res : (Int32 × St)} (hX : XK E) (hR : 5 ≤ R.frames ∧ 110 ≤ R.locals) (X : MX E p s m args meth c cX14_isBetter 7 (some .boolean) RX14 "isBetter") (N : Nat) : ∀ (x0 : Nat) (x3 : Int32) (x4 : Int32) (x5 : Int32) (y0 : Int32) (σ : St) (H : Heap) (locs : List Loc) (cells slots : Nat) (ls : Array Slot), WI E R s σ H locs cells slots → lv_has ls 7 [(0, .ref x0), (3, .int x3), (4, .int x4), (5, .int x5)] → fX14_isBetter_140 N x0 x3 x4 x5 y0 σ = some res → W p l e R s m args below meth c H locs cells slots (MQ below (Qd E R.cells R.slots (some (.int res.1)) res.2) args s R.cells R.slots (fr E)) (F0 m 140 ls [.int y0]) := by
  intro x0 x3 x4 x5 y0 σ H locs cells slots ls I hl hf
  obtain ⟨⟨hx, hb, hml, hown, hts⟩, -⟩ := id X
  unfold fX14_isBetter_140 at hf
  refine lv_istore (lv' := [(6, .int y0), (0, .ref x0), (3, .int x3), (4, .int x4), (5, .int x5)]) hx hb dX14_isBetter_140 hl (by decide) rfl (fun ls hl => ?_)
  refine lv_iload hx hb dX14_isBetter_142 (lv_at hl 0 rfl) ?_
  refine lv_if_eq (tgt := 161) hx hb dX14_isBetter_144 (by decide) (fun c_144 => ?_) (fun c_144 => ?_)
  · have hf := ip c_144 hf
    refine lv_iload hx hb dX14_isBetter_161 (lv_at hl 0 rfl) ?_
    by_cases d_163 : ¬ (y0 = 0 ∨ y0 = 1)
    · exact nomatch (im d_163 hf)
    have c_163 := Decidable.not_not.mp d_163
    have hf := ip c_163 hf
    cases os hf
    exact r_zret X I c_163 dX14_isBetter_163
  · have hf := im c_144 hf
    refine lv_aload_n hx hb dX14_isBetter_147 rfl (lv_at hl 1 rfl) ?_
    refine lv_iload hx hb dX14_isBetter_148 (lv_at hl 3 rfl) ?_
    refine lv_iload_n hx hb dX14_isBetter_150 rfl (lv_at hl 2 rfl) ?_
    refine lv_isub hx hb dX14_isBetter_151 ?_
    obtain ⟨σ_1, eσ_1, hf⟩ := ob hf
    refine g_put X I pfX14_83 rfl rfl eσ_1 dX14_isBetter_152 (fun H locs I => ?_)
    refine lv_aload_n hx hb dX14_isBetter_155 rfl (lv_at hl 1 rfl) ?_
    refine lv_iload hx hb dX14_isBetter_156 (lv_at hl 4 rfl) ?_
    obtain ⟨σ_2, eσ_2, hf⟩ := ob hf
    refine g_put X I pfX14_86 rfl rfl eσ_2 dX14_isBetter_158 (fun H locs I => ?_)
    refine lv_iload hx hb dX14_isBetter_161 (lv_at hl 0 rfl) ?_
    by_cases d_163 : ¬ (y0 = 0 ∨ y0 = 1)
    · exact nomatch (im d_163 hf)
    have c_163 := Decidable.not_not.mp d_163
    have hf := ip c_163 hf
    cases os hf
    exact r_zret X I c_163 dX14_isBetter_163
theorem wX14_isBetter_139 {E : EV} {l : Launch} {p : Program} {e : Env} {s : State} {m : MethodId} {args : Array Value} {below : List Frame} {meth : Method} {c : Code} {R : Room} {res : (Int32 × St)} (hX : XK E) (hR : 5 ≤ R.frames ∧ 110 ≤ R.locals) (X : MX E p s m args meth c cX14_isBetter 7 (some .boolean) RX14 "isBetter") (N : Nat) : ∀ (x0 : Nat) (x3 : Int32) (x4 : Int32) (x5 : Int32) (σ : St) (H : Heap) (locs : List Loc) (cells slots : Nat) (ls : Array Slot), WI E R s σ H locs cells slots → lv_has ls 7 [(0, .ref x0), (3, .int x3), (4, .int x4), (5, .int x5)] → fX14_isBetter_139 N x0 x3 x4 x5 σ = some res → W p l e R s m args below meth c H locs cells slots (MQ below (Qd E R.cells R.slots (some (.int res.1)) res.2) args s R.cells R.slots (fr E)) (F0 m 139 ls []) := by
  intro x0 x3 x4 x5 σ H locs cells slots ls I hl hf
  obtain ⟨⟨hx, hb, hml, hown, hts⟩, -⟩ := id X
  unfold fX14_isBetter_139 at hf
  refine lv_iconst (v := 0) hx hb dX14_isBetter_139 (by decide) ?_
  exact wX14_isBetter_140 hX hR X N x0 x3 x4 x5 (0 : Int32) σ _ _ _ _ _ I (lv_sub hl [0, 1, 2, 3] rfl) hf
theorem wX14_isBetter_135 {E : EV} {l : Launch} {p : Program} {e : Env} {s : State} {m : MethodId} {args : Array Value} {below : List Frame} {meth : Method} {c : Code} {R : Room} {res : (Int32 × St)} (hX : XK E) (hR : 5 ≤ R.frames ∧ 110 ≤ R.locals) (X : MX E p s m args meth c cX14_isBetter 7 (some .boolean) RX14 "isBetter") (N : Nat) : ∀ (x0 : Nat) (x3 : Int32) (x4 : Int32) (x5 : Int32) (σ : St) (H : Heap) (locs : List Loc) (cells slots : Nat) (ls : Array Slot), WI E R s σ H locs cells slots → lv_has ls 7 [(0, .ref x0), (3, .int x3), (4, .int x4), (5, .int x5)] → fX14_isBetter_135 N x0 x3 x4 x5 σ = some res → W p l e R s m args below meth c H locs cells slots (MQ below (Qd E R.cells R.slots (some (.int res.1)) res.2) args s R.cells R.slots (fr E)) (F0 m 135 ls []) := by
  intro x0 x3 x4 x5 σ H locs cells slots ls I hl hf
  obtain ⟨⟨hx, hb, hml, hown, hts⟩, -⟩ := id X
  unfold fX14_isBetter_135 at hf
  refine lv_iconst (v := 1) hx hb dX14_isBetter_135 (by decide) ?_
  refine lv_goto (tgt := 140) hx hb dX14_isBetter_136 (by decide) ?_
  exact wX14_isBetter_140 hX hR X N x0 x3 x4 x5 (1 : Int32) σ _ _ _ _ _ I (lv_sub hl [0, 1, 2, 3] rfl) hf
theorem wX14_isBetter_91 {E : EV} {l : Launch} {p : Program} {e : Env} {s : State} {m : MethodId} {args : Array Value} {below : List Frame} {meth : Method} {c : Code} {R : Room} {res : (Int32 × St)} (hX : XK E) (hR : 5 ≤ R.frames ∧ 110 ≤ R.locals) (X : MX E p s m args meth c cX14_isBetter 7 (some .boolean) RX14 "isBetter") (N : Nat) (r39 : Nat → Nat → Int32 → Int32 → Int32 → St → Option (Int32 × St)) (hr39 : ∀ (x0 : Nat) (x2 : Nat) (x3 : Int32) (x4 : Int32) (x5 : Int32) (σ : St) (H : Heap) (locs : List Loc) (cells slots : Nat) (ls : Array Slot), WI E R s σ H locs cells slots → lv_has ls 7 [(0, .ref x0), (2, .ref x2), (3, .int x3), (4, .int x4), (5, .int x5)] → r39 x0 x2 x3 x4 x5 σ = some res → W p l e R s m args below meth c H locs cells slots (MQ below (Qd E R.cells R.slots (some (.int res.1)) res.2) args s R.cells R.slots (fr E)) (F0 m 39 ls [])) : ∀ (x0 : Nat) (x2 : Nat) (x3 : Int32) (x4 : Int32) (y0 : Int32) (σ : St) (H : Heap) (locs : List Loc) (cells slots : Nat) (ls : Array Slot), WI E R s σ H locs cells slots → lv_has ls 7 [(0, .ref x0), (2, .ref x2), (3, .int x3), (4, .int x4)] → fX14_isBetter_91 N r39 x0 x2 x3 x4 y0 σ = some res → W p l e R s m args below meth c H locs cells slots (MQ below (Qd E R.cells R.slots (some (.int res.1)) res.2) args s R.cells R.slots (fr E)) (F0 m 91 ls [.int y0]) := by
  intro x0 x2 x3 x4 y0 σ H locs cells slots ls I hl hf
  obtain ⟨⟨hx, hb, hml, hown, hts⟩, -⟩ := id X
  unfold fX14_isBetter_91 at hf
  refine lv_istore (lv' := [(5, .int y0), (0, .ref x0), (2, .ref x2), (3, .int x3), (4, .int x4)]) hx hb dX14_isBetter_91 hl (by decide) rfl (fun ls hl => ?_)
  refine lv_goto (tgt := 39) hx hb dX14_isBetter_93 (by decide) ?_
  exact hr39 x0 x2 x3 x4 y0 σ _ _ _ _ _ I (lv_sub hl [1, 2, 3, 4, 0] rfl) hf
theorem wX14_isBetter_39 {E : EV} {l : Launch} {p : Program} {e : Env} {s : State} {m : MethodId} {args : Array Value} {below : List Frame} {meth : Method} {c : Code} {R : Room} {res : (Int32 × St)} (hX : XK E) (hR : 5 ≤ R.frames ∧ 110 ≤ R.locals) (X : MX E p s m args meth c cX14_isBetter 7 (some .boolean) RX14 "isBetter") (N : Nat) : ∀ (n : Nat) (x0 : Nat) (x2 : Nat) (x3 : Int32) (x4 : Int32) (x5 : Int32) (σ : St) (H : Heap) (locs : List Loc) (cells slots : Nat) (ls : Array Slot), WI E R s σ H locs cells slots → lv_has ls 7 [(0, .ref x0), (2, .ref x2), (3, .int x3), (4, .int x4), (5, .int x5)] → fX14_isBetter_39 N n x0 x2 x3 x4 x5 σ = some res → W p l e R s m args below meth c H locs cells slots (MQ below (Qd E R.cells R.slots (some (.int res.1)) res.2) args s R.cells R.slots (fr E)) (F0 m 39 ls []) := by
  intro n
  induction n with
  | zero => intro x0 x2 x3 x4 x5 σ H locs cells slots ls I hl hf; exact nomatch (show none = some res from hf)
  | succ n ih =>
    intro x0 x2 x3 x4 x5 σ H locs cells slots ls I hl hf
    obtain ⟨⟨hx, hb, hml, hown, hts⟩, -⟩ := id X
    rw [fX14_isBetter_39.eq_2] at hf
    refine lv_aload_n hx hb dX14_isBetter_39 rfl (lv_at hl 0 rfl) ?_
    obtain ⟨v_3, ev_3, hf⟩ := ob hf
    refine g_get X I gfX14_27 (gR_in ev_3) dX14_isBetter_40 ?_
    obtain ⟨a_4, ea_4, hga_4⟩ := ob hf
    have hla_4 := hl
    have Ia_4 := I
    subst ea_4
    have hf := hga_4
    have hl := hla_4
    have I := Ia_4
    obtain ⟨u_5, eu_5, hf⟩ := ob hf
    obtain ⟨v_6, ev_6, hf⟩ := ob hf
    refine cg_V (vw := (RX13, TX13, 17)) (ci := 11) (r := (some (.int v_6))) (σ' := σ) (rs := [.int v_6]) (rest := []) (As := []) X I eu_5 rfl (mX13_goesOn hX ev_6) lvX14_66 hdX14_66 ⟨Nat.le_trans (Nat.le_of_ble_eq_true rfl) hR.1, Nat.le_trans (Nat.le_of_ble_eq_true rfl) hR.2⟩ rfl hl.1 rfl (Nat.le_of_ble_eq_true rfl) rfl dX14_isBetter_43 (fun H locs cells slots I => ?_)
    refine lv_if_eq (tgt := 96) hx hb dX14_isBetter_46 (by decide) (fun c_46 => ?_) (fun c_46 => ?_)
    · have hf := ip c_46 hf
      refine lv_aload_n hx hb dX14_isBetter_96 rfl (lv_at hl 0 rfl) ?_
      obtain ⟨v_8, ev_8, hf⟩ := ob hf
      refine g_get X I gfX14_83 (gI_in ev_8) dX14_isBetter_97 ?_
      refine lv_iconst (v := (-1)) hx hb dX14_isBetter_100 (by decide) ?_
      refine lv_icmp_eq (tgt := 135) hx hb dX14_isBetter_101 (by decide) (fun c_101 => ?_) (fun c_101 => ?_)
      · have hf := ip c_101 hf
        exact wX14_isBetter_135 hX hR X N x0 x3 x4 x5 σ _ _ _ _ _ I (lv_sub hl [0, 2, 3, 4] rfl) hf
      · have hf := im c_101 hf
        refine lv_iload hx hb dX14_isBetter_104 (lv_at hl 3 rfl) ?_
        refine lv_iload_n hx hb dX14_isBetter_106 rfl (lv_at hl 2 rfl) ?_
        refine lv_isub hx hb dX14_isBetter_107 ?_
        refine lv_aload_n hx hb dX14_isBetter_108 rfl (lv_at hl 0 rfl) ?_
        obtain ⟨v_9, ev_9, hf⟩ := ob hf
        refine g_get X I gfX14_83 (gI_in ev_9) dX14_isBetter_109 ?_
        refine lv_icmp_lt (tgt := 135) hx hb dX14_isBetter_112 (by decide) (fun c_112 => ?_) (fun c_112 => ?_)
        · have hf := ip c_112 hf
          exact wX14_isBetter_135 hX hR X N x0 x3 x4 x5 σ _ _ _ _ _ I (lv_sub hl [0, 2, 3, 4] rfl) hf
        · have hf := im c_112 hf
          refine lv_iload hx hb dX14_isBetter_115 (lv_at hl 3 rfl) ?_
          refine lv_iload_n hx hb dX14_isBetter_117 rfl (lv_at hl 2 rfl) ?_
          refine lv_isub hx hb dX14_isBetter_118 ?_
          refine lv_aload_n hx hb dX14_isBetter_119 rfl (lv_at hl 0 rfl) ?_
          obtain ⟨v_10, ev_10, hf⟩ := ob hf
          refine g_get X I gfX14_83 (gI_in ev_10) dX14_isBetter_120 ?_
          refine lv_icmp_ne (tgt := 139) hx hb dX14_isBetter_123 (by decide) (fun c_123 => ?_) (fun c_123 => ?_)
          · have hf := im c_123 hf
            exact wX14_isBetter_139 hX hR X N x0 x3 x4 x5 σ _ _ _ _ _ I (lv_sub hl [0, 2, 3, 4] rfl) hf
          · have hf := ip c_123 hf
            refine lv_iload hx hb dX14_isBetter_126 (lv_at hl 4 rfl) ?_
            refine lv_aload_n hx hb dX14_isBetter_128 rfl (lv_at hl 0 rfl) ?_
            obtain ⟨v_11, ev_11, hf⟩ := ob hf
            refine g_get X I gfX14_86 (gI_in ev_11) dX14_isBetter_129 ?_
            refine lv_icmp_ge (tgt := 139) hx hb dX14_isBetter_132 (by decide) (fun c_132 => ?_) (fun c_132 => ?_)
            · have hf := ip c_132 hf
              exact wX14_isBetter_139 hX hR X N x0 x3 x4 x5 σ _ _ _ _ _ I (lv_sub hl [0, 2, 3, 4] rfl) hf
            · have hf := im c_132 hf
              exact wX14_isBetter_135 hX hR X N x0 x3 x4 x5 σ _ _ _ _ _ I (lv_sub hl [0, 2, 3, 4] rfl) hf
    · have hf := im c_46 hf
      refine lv_aload_n hx hb dX14_isBetter_49 rfl (lv_at hl 0 rfl) ?_
      obtain ⟨v_12, ev_12, hf⟩ := ob hf
      refine g_get X I gfX14_27 (gR_in ev_12) dX14_isBetter_50 ?_
      obtain ⟨a_13, ea_13, hga_13⟩ := ob hf
      have hla_13 := hl
      have Ia_13 := I
      subst ea_13
      have hf := hga_13
      have hl := hla_13
      have I := Ia_13
      obtain ⟨u_14, eu_14, hf⟩ := ob hf
      obtain ⟨σ_16, ev_15, hf⟩ := ob hf
      refine cg_V (vw := (RX13, TX13, 17)) (ci := 11) (r := none) (σ' := σ_16) (rs := []) (rest := []) (As := []) X I eu_14 rfl (mX13_next hX ev_15) lvX14_69 hdX14_69 ⟨Nat.le_trans (Nat.le_of_ble_eq_true rfl) hR.1, Nat.le_trans (Nat.le_of_ble_eq_true rfl) hR.2⟩ rfl hl.1 rfl (Nat.le_of_ble_eq_true rfl) rfl dX14_isBetter_53 (fun H locs cells slots I => ?_)
      refine lv_iload hx hb dX14_isBetter_56 (lv_at hl 3 rfl) ?_
      refine lv_aload_n hx hb dX14_isBetter_58 rfl (lv_at hl 0 rfl) ?_
      obtain ⟨v_17, ev_17, hf⟩ := ob hf
      refine g_get X I gfX14_27 (gR_in ev_17) dX14_isBetter_59 ?_
      obtain ⟨a_18, ea_18, hga_18⟩ := ob hf
      have hla_18 := hl
      have Ia_18 := I
      subst ea_18
      have hf := hga_18
      have hl := hla_18
      have I := Ia_18
      obtain ⟨v_19, ev_19, hf⟩ := ob hf
      refine g_getN hX X I gfX14_72 (gI_in ev_19) dX14_isBetter_62 ?_
      refine lv_iadd hx hb dX14_isBetter_65 ?_
      obtain ⟨x4_20, ex4_20, hf⟩ := ol hf
      refine nm_i ex4_20 ?_
      refine lv_istore (lv' := [(4, .int x4_20), (0, .ref x0), (2, .ref x2), (3, .int x3), (5, .int x5)]) hx hb dX14_isBetter_66 hl (by decide) rfl (fun ls hl => ?_)
      refine lv_aload_n hx hb dX14_isBetter_68 rfl (lv_at hl 1 rfl) ?_
      obtain ⟨v_21, ev_21, hf⟩ := ob hf
      refine g_get X I gfX14_27 (gR_in ev_21) dX14_isBetter_69 ?_
      obtain ⟨a_22, ea_22, hga_22⟩ := ob hf
      have hla_22 := hl
      have Ia_22 := I
      subst ea_22
      have hf := hga_22
      have hl := hla_22
      have I := Ia_22
      obtain ⟨v_23, ev_23, hf⟩ := ob hf
      refine g_getN hX X I gfX14_76 (gR_in ev_23) dX14_isBetter_72 ?_
      refine lv_aload_n hx hb dX14_isBetter_75 rfl (lv_at hl 2 rfl) ?_
      refine lv_acmp_ne (rx := v_23) (ry := (some x2)) (tgt := 89) hx hb dX14_isBetter_76 (by decide) (fun c_76 => ?_) (fun c_76 => ?_)
      · have hf := im c_76 hf
        refine lv_iload hx hb dX14_isBetter_89 (lv_at hl 4 rfl) ?_
        exact wX14_isBetter_91 hX hR X N (fX14_isBetter_39 N n) ih x0 x2 x3 x4_20 x5 σ_16 _ _ _ _ _ I (lv_sub hl [1, 2, 3, 0] rfl) hf
      · have hf := ip c_76 hf
        refine lv_aload_n hx hb dX14_isBetter_79 rfl (lv_at hl 1 rfl) ?_
        obtain ⟨v_24, ev_24, hf⟩ := ob hf
        refine g_get X I gfX14_27 (gR_in ev_24) dX14_isBetter_80 ?_
        obtain ⟨a_25, ea_25, hga_25⟩ := ob hf
        have hla_25 := hl
        have Ia_25 := I
        subst ea_25
        have hf := hga_25
        have hl := hla_25
        have I := Ia_25
        obtain ⟨v_26, ev_26, hf⟩ := ob hf
        refine g_getN hX X I gfX14_80 (gI_in ev_26) dX14_isBetter_83 ?_
        refine lv_goto (tgt := 91) hx hb dX14_isBetter_86 (by decide) ?_
        exact wX14_isBetter_91 hX hR X N (fX14_isBetter_39 N n) ih x0 x2 x3 x4_20 v_26 σ_16 _ _ _ _ _ I (lv_sub hl [1, 2, 3, 0] rfl) hf
theorem wX14_isBetter_0 {E : EV} {l : Launch} {p : Program} {e : Env} {s : State} {m : MethodId} {args : Array Value} {below : List Frame} {meth : Method} {c : Code} {R : Room} {res : (Int32 × St)} (hX : XK E) (hR : 5 ≤ R.frames ∧ 110 ≤ R.locals) (X : MX E p s m args meth c cX14_isBetter 7 (some .boolean) RX14 "isBetter") (N : Nat) : ∀ (x0 : Nat) (x1 : Nat) (x2 : Nat) (x3 : Int32) (σ : St) (H : Heap) (locs : List Loc) (cells slots : Nat) (ls : Array Slot), WI E R s σ H locs cells slots → lv_has ls 7 [(0, .ref x0), (1, .ref x1), (2, .ref x2), (3, .int x3)] → fX14_isBetter N σ x0 x1 x2 x3 = some res → W p l e R s m args below meth c H locs cells slots (MQ below (Qd E R.cells R.slots (some (.int res.1)) res.2) args s R.cells R.slots (fr E)) (F0 m 0 ls []) := by
  intro x0 x1 x2 x3 σ H locs cells slots ls I hl hf
  obtain ⟨⟨hx, hb, hml, hown, hts⟩, -⟩ := id X
  unfold fX14_isBetter at hf
  refine lv_aload_n hx hb dX14_isBetter_0 rfl (lv_at hl 0 rfl) ?_
  obtain ⟨v_27, ev_27, hf⟩ := ob hf
  refine g_get X I gfX14_27 (gR_in ev_27) dX14_isBetter_1 ?_
  refine lv_aload_n hx hb dX14_isBetter_4 rfl (lv_at hl 1 rfl) ?_
  refine lv_aload_n hx hb dX14_isBetter_5 rfl (lv_at hl 0 rfl) ?_
  obtain ⟨v_28, ev_28, hf⟩ := ob hf
  refine g_get X I gfX14_12 (gR_in ev_28) dX14_isBetter_6 ?_
  obtain ⟨a_29, ea_29, hga_29⟩ := ob hf
  have hla_29 := hl
  have Ia_29 := I
  subst ea_29
  have hf := hga_29
  have hl := hla_29
  have I := Ia_29
  obtain ⟨a_30, ea_30, hga_30⟩ := ob hf
  have hla_30 := hl
  have Ia_30 := I
  subst ea_30
  have hf := hga_30
  have hl := hla_30
  have I := Ia_30
  obtain ⟨u_31, eu_31, hf⟩ := ob hf
  obtain ⟨⟨v_32, σ_33⟩, ev_32, hf⟩ := ob hf
  refine cg_V (vw := (RX13, TX13, 17)) (ci := 11) (r := (some (.ref v_32))) (σ' := σ_33) (rs := [.ref v_32]) (rest := []) (As := [.ref x1, .ref a_29]) X I eu_31 rfl (mX13_begin hX ev_32) lvX14_58 hdX14_58 ⟨Nat.le_trans (Nat.le_of_ble_eq_true rfl) hR.1, Nat.le_trans (Nat.le_of_ble_eq_true rfl) hR.2⟩ rfl hl.1 rfl (Nat.le_of_ble_eq_true rfl) rfl dX14_isBetter_9 (fun H locs cells slots I => ?_)
  obtain ⟨u_34, eu_34, hf⟩ := ob hf
  obtain ⟨⟨v_35, σ_36⟩, ev_35, hf⟩ := ob hf
  refine cg_V (vw := (RX13, TX13, 17)) (ci := 11) (r := (some (.int v_35))) (σ' := σ_36) (rs := [.int v_35]) (rest := []) (As := []) X I eu_34 rfl (mX13_keeps hX ev_35) lvX14_62 hdX14_62 ⟨Nat.le_trans (Nat.le_of_ble_eq_true rfl) hR.1, Nat.le_trans (Nat.le_of_ble_eq_true rfl) hR.2⟩ rfl hl.1 rfl (Nat.le_of_ble_eq_true rfl) rfl dX14_isBetter_12 (fun H locs cells slots I => ?_)
  refine lv_if_ne (tgt := 20) hx hb dX14_isBetter_15 (by decide) (fun c_15 => ?_) (fun c_15 => ?_)
  · have hf := im c_15 hf
    refine lv_iconst (v := 0) hx hb dX14_isBetter_20 (by decide) ?_
    refine lv_istore (lv' := [(4, .int (0 : Int32)), (0, .ref x0), (1, .ref x1), (2, .ref x2), (3, .int x3)]) hx hb dX14_isBetter_21 hl (by decide) rfl (fun ls hl => ?_)
    refine lv_iconst (v := 0) hx hb dX14_isBetter_23 (by decide) ?_
    refine lv_istore (lv' := [(5, .int (0 : Int32)), (4, .int (0 : Int32)), (0, .ref x0), (1, .ref x1), (2, .ref x2), (3, .int x3)]) hx hb dX14_isBetter_24 hl (by decide) rfl (fun ls hl => ?_)
    refine lv_aload_n hx hb dX14_isBetter_26 rfl (lv_at hl 2 rfl) ?_
    obtain ⟨v_37, ev_37, hf⟩ := ob hf
    refine g_get X I gfX14_27 (gR_in ev_37) dX14_isBetter_27 ?_
    refine lv_aload_n hx hb dX14_isBetter_30 rfl (lv_at hl 3 rfl) ?_
    refine lv_aload_n hx hb dX14_isBetter_31 rfl (lv_at hl 2 rfl) ?_
    obtain ⟨v_38, ev_38, hf⟩ := ob hf
    refine g_get X I gfX14_12 (gR_in ev_38) dX14_isBetter_32 ?_
    obtain ⟨a_39, ea_39, hga_39⟩ := ob hf
    have hla_39 := hl
    have Ia_39 := I
    subst ea_39
    have hf := hga_39
    have hl := hla_39
    have I := Ia_39
    obtain ⟨a_40, ea_40, hga_40⟩ := ob hf
    have hla_40 := hl
    have Ia_40 := I
    subst ea_40
    have hf := hga_40
    have hl := hla_40
    have I := Ia_40
    obtain ⟨u_41, eu_41, hf⟩ := ob hf
    obtain ⟨⟨v_42, σ_43⟩, ev_42, hf⟩ := ob hf
    refine cg_V (vw := (RX13, TX13, 17)) (ci := 11) (r := (some (.ref v_42))) (σ' := σ_43) (rs := [.ref v_42]) (rest := []) (As := [.ref x1, .ref a_39]) X I eu_41 rfl (mX13_begin hX ev_42) lvX14_58 hdX14_58 ⟨Nat.le_trans (Nat.le_of_ble_eq_true rfl) hR.1, Nat.le_trans (Nat.le_of_ble_eq_true rfl) hR.2⟩ rfl hl.1 rfl (Nat.le_of_ble_eq_true rfl) rfl dX14_isBetter_35 (fun H locs cells slots I => ?_)
    refine lv_pop hx hb dX14_isBetter_38 rfl ?_
    exact wX14_isBetter_39 hX hR X N N x0 x2 x3 (0 : Int32) (0 : Int32) σ_43 _ _ _ _ _ I (lv_sub hl [2, 4, 5, 1, 0] rfl) hf
  · have hf := ip c_15 hf
    refine lv_iconst (v := 0) hx hb dX14_isBetter_18 (by decide) ?_
    cases os hf
    exact r_zret X I (Or.inl rfl) dX14_isBetter_19
theorem mX14_isBetter {E : EV} {l : Launch} {N : Nat} {σ : St} {x0 : Nat} {x1 : Nat} {x2 : Nat} {x3 : Int32} {res : (Int32 × St)} (hX : XK E) (hf : fX14_isBetter N σ x0 x1 x2 x3 = some res) : CM E l yX14_isBetter (ws_ yX14_isBetter cX14_isBetter 7 (some .boolean)) 5 110 [.ref x0, .ref x1, .ref x2, .int x3] σ (some (.int res.1)) res.2 := by
  refine CM.of hX.1 (by decide) rfl rfl (Nat.le_of_ble_eq_true rfl) ?_
  intro p e s m below meth c X I ls hl
  exact wX14_isBetter_0 hX ⟨Nat.le_refl _, Nat.le_refl _⟩ X N _ _ _ _ _ _ _ _ _ _ I hl hf
/-! SharedTaxis$Search.arrival(LSharedTaxis$Taxi;LSharedTaxis$Stop;)I imp=True fuel=True kap=False rt=I thr=False -/
def fX14_arrival_13 (N : Nat) : Nat → Nat → Nat → St → Option (Int32 × St)
  | 0, _, _, _ => none
  | n + 1, x0, x2, σ => (gR σ x0 [(12, 1)]).bind fun v_1 : Option Nat => (v_1).bind fun a_2 : Nat => (isC σ a_2 11).bind fun u_3 : Unit => (fX13_next σ a_2).bind fun σ_5 : St => (gR σ_5 x0 [(12, 1)]).bind fun v_6 : Option Nat => (v_6).bind fun a_7 : Nat => (gR σ_5 a_7 [(11, 7)]).bind fun v_8 : Option Nat => if v_8 = (some x2) then (gR σ_5 x0 [(12, 1)]).bind fun v_9 : Option Nat => (v_9).bind fun a_10 : Nat => (gI σ_5 a_10 [(11, 11)]).bind fun v_11 : Int32 => some (v_11, σ_5) else fX14_arrival_13 N n x0 x2 σ_5
def fX14_arrival (N : Nat) (σ : St) (x0 : Nat) (x1 : Nat) (x2 : Nat) : Option (Int32 × St) := (gR σ x0 [(12, 1)]).bind fun v_12 : Option Nat => (gR σ x0 [(12, 2)]).bind fun v_13 : Option Nat => (v_13).bind fun a_14 : Nat => (v_12).bind fun a_15 : Nat => (isC σ a_15 11).bind fun u_16 : Unit => (fX13_begin N σ a_15 x1 a_14).bind fun (v_17, σ_18) => fX14_arrival_13 N N x0 x2 σ_18
theorem wX14_arrival_13 {E : EV} {l : Launch} {p : Program} {e : Env} {s : State} {m : MethodId} {args : Array Value} {below : List Frame} {meth : Method} {c : Code} {R : Room} {res : (Int32 × St)} (hX : XK E) (hR : 5 ≤ R.frames ∧ 110 ≤ R.locals) (X : MX E p s m args meth c cX14_arrival 3 (some .int) RX14 "arrival") (N : Nat) : ∀ (n : Nat) (x0 : Nat) (x2 : Nat) (σ : St) (H : Heap) (locs : List Loc) (cells slots : Nat) (ls : Array Slot), WI E R s σ H locs cells slots → lv_has ls 3 [(0, .ref x0), (2, .ref x2)] → fX14_arrival_13 N n x0 x2 σ = some res → W p l e R s m args below meth c H locs cells slots (MQ below (Qd E R.cells R.slots (some (.int res.1)) res.2) args s R.cells R.slots (fr E)) (F0 m 13 ls []) := by
  intro n
  induction n with
  | zero => intro x0 x2 σ H locs cells slots ls I hl hf; exact nomatch (show none = some res from hf)
  | succ n ih =>
    intro x0 x2 σ H locs cells slots ls I hl hf
    obtain ⟨⟨hx, hb, hml, hown, hts⟩, -⟩ := id X
    rw [fX14_arrival_13.eq_2] at hf
    refine lv_aload_n hx hb dX14_arrival_13 rfl (lv_at hl 0 rfl) ?_
    obtain ⟨v_1, ev_1, hf⟩ := ob hf
    refine g_get X I gfX14_27 (gR_in ev_1) dX14_arrival_14 ?_
    obtain ⟨a_2, ea_2, hga_2⟩ := ob hf
    have hla_2 := hl
    have Ia_2 := I
    subst ea_2
    have hf := hga_2
    have hl := hla_2
    have I := Ia_2
    obtain ⟨u_3, eu_3, hf⟩ := ob hf
    obtain ⟨σ_5, ev_4, hf⟩ := ob hf
    refine cg_V (vw := (RX13, TX13, 17)) (ci := 11) (r := none) (σ' := σ_5) (rs := []) (rest := []) (As := []) X I eu_3 rfl (mX13_next hX ev_4) lvX14_69 hdX14_69 ⟨Nat.le_trans (Nat.le_of_ble_eq_true rfl) hR.1, Nat.le_trans (Nat.le_of_ble_eq_true rfl) hR.2⟩ rfl hl.1 rfl (Nat.le_of_ble_eq_true rfl) rfl dX14_arrival_17 (fun H locs cells slots I => ?_)
    refine lv_aload_n hx hb dX14_arrival_20 rfl (lv_at hl 0 rfl) ?_
    obtain ⟨v_6, ev_6, hf⟩ := ob hf
    refine g_get X I gfX14_27 (gR_in ev_6) dX14_arrival_21 ?_
    obtain ⟨a_7, ea_7, hga_7⟩ := ob hf
    have hla_7 := hl
    have Ia_7 := I
    subst ea_7
    have hf := hga_7
    have hl := hla_7
    have I := Ia_7
    obtain ⟨v_8, ev_8, hf⟩ := ob hf
    refine g_getN hX X I gfX14_76 (gR_in ev_8) dX14_arrival_24 ?_
    refine lv_aload_n hx hb dX14_arrival_27 rfl (lv_at hl 1 rfl) ?_
    refine lv_acmp_ne (rx := v_8) (ry := (some x2)) (tgt := 13) hx hb dX14_arrival_28 (by decide) (fun c_28 => ?_) (fun c_28 => ?_)
    · have hf := im c_28 hf
      exact ih x0 x2 σ_5 _ _ _ _ _ I (lv_sub hl [0, 1] rfl) hf
    · have hf := ip c_28 hf
      refine lv_aload_n hx hb dX14_arrival_31 rfl (lv_at hl 0 rfl) ?_
      obtain ⟨v_9, ev_9, hf⟩ := ob hf
      refine g_get X I gfX14_27 (gR_in ev_9) dX14_arrival_32 ?_
      obtain ⟨a_10, ea_10, hga_10⟩ := ob hf
      have hla_10 := hl
      have Ia_10 := I
      subst ea_10
      have hf := hga_10
      have hl := hla_10
      have I := Ia_10
      obtain ⟨v_11, ev_11, hf⟩ := ob hf
      refine g_getN hX X I gfX14_80 (gI_in ev_11) dX14_arrival_35 ?_
      cases os hf
      exact r_iret X I dX14_arrival_38
theorem wX14_arrival_0 {E : EV} {l : Launch} {p : Program} {e : Env} {s : State} {m : MethodId} {args : Array Value} {below : List Frame} {meth : Method} {c : Code} {R : Room} {res : (Int32 × St)} (hX : XK E) (hR : 5 ≤ R.frames ∧ 110 ≤ R.locals) (X : MX E p s m args meth c cX14_arrival 3 (some .int) RX14 "arrival") (N : Nat) : ∀ (x0 : Nat) (x1 : Nat) (x2 : Nat) (σ : St) (H : Heap) (locs : List Loc) (cells slots : Nat) (ls : Array Slot), WI E R s σ H locs cells slots → lv_has ls 3 [(0, .ref x0), (1, .ref x1), (2, .ref x2)] → fX14_arrival N σ x0 x1 x2 = some res → W p l e R s m args below meth c H locs cells slots (MQ below (Qd E R.cells R.slots (some (.int res.1)) res.2) args s R.cells R.slots (fr E)) (F0 m 0 ls []) := by
  intro x0 x1 x2 σ H locs cells slots ls I hl hf
  obtain ⟨⟨hx, hb, hml, hown, hts⟩, -⟩ := id X
  unfold fX14_arrival at hf
  refine lv_aload_n hx hb dX14_arrival_0 rfl (lv_at hl 0 rfl) ?_
  obtain ⟨v_12, ev_12, hf⟩ := ob hf
  refine g_get X I gfX14_27 (gR_in ev_12) dX14_arrival_1 ?_
  refine lv_aload_n hx hb dX14_arrival_4 rfl (lv_at hl 1 rfl) ?_
  refine lv_aload_n hx hb dX14_arrival_5 rfl (lv_at hl 0 rfl) ?_
  obtain ⟨v_13, ev_13, hf⟩ := ob hf
  refine g_get X I gfX14_12 (gR_in ev_13) dX14_arrival_6 ?_
  obtain ⟨a_14, ea_14, hga_14⟩ := ob hf
  have hla_14 := hl
  have Ia_14 := I
  subst ea_14
  have hf := hga_14
  have hl := hla_14
  have I := Ia_14
  obtain ⟨a_15, ea_15, hga_15⟩ := ob hf
  have hla_15 := hl
  have Ia_15 := I
  subst ea_15
  have hf := hga_15
  have hl := hla_15
  have I := Ia_15
  obtain ⟨u_16, eu_16, hf⟩ := ob hf
  obtain ⟨⟨v_17, σ_18⟩, ev_17, hf⟩ := ob hf
  refine cg_V (vw := (RX13, TX13, 17)) (ci := 11) (r := (some (.ref v_17))) (σ' := σ_18) (rs := [.ref v_17]) (rest := []) (As := [.ref x1, .ref a_14]) X I eu_16 rfl (mX13_begin hX ev_17) lvX14_58 hdX14_58 ⟨Nat.le_trans (Nat.le_of_ble_eq_true rfl) hR.1, Nat.le_trans (Nat.le_of_ble_eq_true rfl) hR.2⟩ rfl hl.1 rfl (Nat.le_of_ble_eq_true rfl) rfl dX14_arrival_9 (fun H locs cells slots I => ?_)
  refine lv_pop hx hb dX14_arrival_12 rfl ?_
  exact wX14_arrival_13 hX hR X N N x0 x2 σ_18 _ _ _ _ _ I (lv_sub hl [0, 2] rfl) hf
theorem mX14_arrival {E : EV} {l : Launch} {N : Nat} {σ : St} {x0 : Nat} {x1 : Nat} {x2 : Nat} {res : (Int32 × St)} (hX : XK E) (hf : fX14_arrival N σ x0 x1 x2 = some res) : CM E l yX14_arrival (ws_ yX14_arrival cX14_arrival 3 (some .int)) 5 110 [.ref x0, .ref x1, .ref x2] σ (some (.int res.1)) res.2 := by
  refine CM.of hX.1 (by decide) rfl rfl (Nat.le_of_ble_eq_true rfl) ?_
  intro p e s m below meth c X I ls hl
  exact wX14_arrival_0 hX ⟨Nat.le_refl _, Nat.le_refl _⟩ X N _ _ _ _ _ _ _ _ _ I hl hf
/-! SharedTaxis$Search.find(LSharedTaxis$Taxi;I)Z imp=True fuel=True kap=True rt=I thr=False -/
theorem lvX14_98 : GoodIn lw_all (wsV RX14 98 RX14 yX14_lay (ws_ yX14_lay cX14_lay 7 none)) := lw_V q1843 q1845 qs21 q150 q1846
theorem hdX14_98 : yX14_lay.cls = RX14 ∧ yX14_lay.cls ≠ "java/lang/invoke/MethodHandle" ∧ yX14_lay.cls ≠ "java/lang/invoke/VarHandle" ∧ (parseMethodDescriptor yX14_lay.desc).map (fun d => d.parameters.length) = some 5 := by decide +kernel
theorem lvX14_102 : GoodIn lw_all (wsV RX14 102 RX14 yX14_isBetter (ws_ yX14_isBetter cX14_isBetter 7 (some .boolean))) := lw_V q1864 q1866 qs23 q150 q1867
theorem hdX14_102 : yX14_isBetter.cls = RX14 ∧ yX14_isBetter.cls ≠ "java/lang/invoke/MethodHandle" ∧ yX14_isBetter.cls ≠ "java/lang/invoke/VarHandle" ∧ (parseMethodDescriptor yX14_isBetter.desc).map (fun d => d.parameters.length) = some 3 := by decide +kernel
theorem pfX14_106 : ∀ q ∈ ([(12, 6)] : List (Nat × Nat)), PF RX14 106 .int q := List.forall_mem_cons.mpr ⟨⟨RX14, TX14, 8, _, tyX14, rfl, in_X14, by decide, q1786, Or.inl rfl, tyX14_ok, nmX14, rfl, rfl⟩, fun _ h => by cases h⟩
theorem pfX14_109 : ∀ q ∈ ([(12, 7)] : List (Nat × Nat)), PF RX14 109 .int q := List.forall_mem_cons.mpr ⟨⟨RX14, TX14, 8, _, tyX14, rfl, in_X14, by decide, q1787, Or.inl rfl, tyX14_ok, nmX14, rfl, rfl⟩, fun _ h => by cases h⟩
theorem lvX14_112 : GoodIn lw_all (wsV RX14 112 RX14 yX14_arrival (ws_ yX14_arrival cX14_arrival 3 (some .int))) := lw_V q1888 q1890 qs25 q150 q1891
theorem hdX14_112 : yX14_arrival.cls = RX14 ∧ yX14_arrival.cls ≠ "java/lang/invoke/MethodHandle" ∧ yX14_arrival.cls ≠ "java/lang/invoke/VarHandle" ∧ (parseMethodDescriptor yX14_arrival.desc).map (fun d => d.parameters.length) = some 2 := by decide +kernel
theorem pfX14_116 : ∀ q ∈ ([(12, 5)] : List (Nat × Nat)), PF RX14 116 .int q := List.forall_mem_cons.mpr ⟨⟨RX14, TX14, 8, _, tyX14, rfl, in_X14, by decide, q1785, Or.inl rfl, tyX14_ok, nmX14, rfl, rfl⟩, fun _ h => by cases h⟩
theorem noX14_53 : NO RX14 53 13 2 [.int 0, .int 0] := ⟨RX15, TX15, tyX15, rfl, in_X15, tyX15_ok, by decide, q1811, q1812, q151⟩
theorem lvX14_89 : GoodIn lw_all (ws_ yX15_init cX15_init 3 none) ∧ Cond.initialized yX15_init.cls ∈ lw_all ∧ Cond.methodLink RX14 89 yX15_init ∈ lw_all ∧ Cond.instanceMethod yX15_init ∈ lw_all ∧ yX15_init.name = "<init>" := ⟨lw_meth q1815, q151, q1813, q1814, rfl⟩
theorem hdX14_89 : yX15_init.cls ≠ "java/lang/invoke/MethodHandle" ∧ yX15_init.cls ≠ "java/lang/invoke/VarHandle" ∧ (parseMethodDescriptor yX15_init.desc).map (fun d => d.parameters.length) = some 2 := by decide +kernel
theorem lvX14_92 : GoodIn lw_all (wsV RX14 92 RX13 yX13_minutesInAll (ws_ yX13_minutesInAll cX13_minutesInAll 2 (some .int))) := lw_V q1834 q1835 q1836 q149 q1837
theorem hdX14_92 : yX13_minutesInAll.cls = RX13 ∧ yX13_minutesInAll.cls ≠ "java/lang/invoke/MethodHandle" ∧ yX13_minutesInAll.cls ≠ "java/lang/invoke/VarHandle" ∧ (parseMethodDescriptor yX13_minutesInAll.desc).map (fun d => d.parameters.length) = some 0 := by decide +kernel
theorem gfX14_95 : ∀ q ∈ ([(10, 6)] : List (Nat × Nat)), GN RX14 95 q := List.forall_mem_cons.mpr ⟨⟨RX12, TX12, 15, _, rfl, in_X12, by decide, q928⟩, fun _ h => by cases h⟩
def fX14_find_157 (N : Nat) (κ : Nat → Nat) (x0 : Nat) (σ : St) : Option (Int32 × St) := (gI σ x0 [(12, 3)]).bind fun v_1 : Int32 => if v_1 = (-1 : Int32) then some ((0 : Int32), σ) else some ((1 : Int32), σ)
def fX14_find_145 (N : Nat) (κ : Nat → Nat) (r69 : Nat → Nat → Int32 → Nat → Nat → Int32 → Int32 → St → Option (Int32 × St)) (r89 : Nat → Nat → Int32 → Nat → Nat → Int32 → Int32 → Int32 → St → Option (Int32 × St)) (x0 : Nat) (x1 : Nat) (x3 : Int32) (x4 : Nat) (x5 : Nat) (x6 : Int32) (x7 : Int32) (x8 : Int32) (σ : St) : Option (Int32 × St) := lt (x8 + 1) fun x8_2 : Int32 => r89 x0 x1 x3 x4 x5 x6 x7 x8_2 σ
def fX14_find_89 (N : Nat) (κ : Nat → Nat) (r69 : Nat → Nat → Int32 → Nat → Nat → Int32 → Int32 → St → Option (Int32 × St)) : Nat → Nat → Nat → Int32 → Nat → Nat → Int32 → Int32 → Int32 → St → Option (Int32 × St)
  | 0, _, _, _, _, _, _, _, _, _ => none
  | n + 1, x0, x1, x3, x4, x5, x6, x7, x8, σ => if (x3 + (1 : Int32)) < x8 then lt (x7 + 1) fun x7_3 : Int32 => r69 x0 x1 x3 x4 x5 x6 x7_3 σ else (isC σ x0 12).bind fun u_4 : Unit => (fX14_lay N κ σ x0 x1 x4 x5 x7 x8).bind fun σ_6 : St => (isC σ_6 x0 12).bind fun u_7 : Unit => (fX14_isBetter N σ_6 x0 x1 x4 x6).bind fun (v_8, σ_9) => if v_8 = 0 then fX14_find_145 N κ r69 (fX14_find_89 N κ r69 n) x0 x1 x3 x4 x5 x6 x7 x8 σ_9 else (pV σ_9 x0 [(12, 6)] (.int x7)).bind fun σ_10 : St => (pV σ_10 x0 [(12, 7)] (.int x8)).bind fun σ_11 : St => (isC σ_11 x0 12).bind fun u_12 : Unit => (fX14_arrival N σ_11 x0 x1 x5).bind fun (v_13, σ_14) => (pV σ_14 x0 [(12, 5)] (.int v_13)).bind fun σ_15 : St => fX14_find_145 N κ r69 (fX14_find_89 N κ r69 n) x0 x1 x3 x4 x5 x6 x7 x8 σ_15
def fX14_find_69 (N : Nat) (κ : Nat → Nat) : Nat → Nat → Nat → Int32 → Nat → Nat → Int32 → Int32 → St → Option (Int32 × St)
  | 0, _, _, _, _, _, _, _, _ => none
  | n + 1, x0, x1, x3, x4, x5, x6, x7, σ => if x3 < x7 then fX14_find_157 N κ x0 σ else if (12 : Int32) < (x3 + (2 : Int32)) then fX14_find_157 N κ x0 σ else lt (x7 + (1 : Int32)) fun x8_16 : Int32 => fX14_find_89 N κ (fX14_find_69 N κ n) N x0 x1 x3 x4 x5 x6 x7 x8_16 σ
def fX14_find_67 (N : Nat) (κ : Nat → Nat) (x0 : Nat) (x1 : Nat) (x3 : Int32) (x4 : Nat) (x5 : Nat) (x6 : Int32) (y0 : Int32) (σ : St) : Option (Int32 × St) := fX14_find_69 N κ N x0 x1 x3 x4 x5 x6 y0 σ
def fX14_find (N : Nat) (κ : Nat → Nat) (σ : St) (x0 : Nat) (x1 : Nat) (x2 : Int32) : Option (Int32 × St) := (pV σ x0 [(12, 3)] (.int (-1 : Int32))).bind fun σ_17 : St => (gR σ_17 x1 [(10, 7)]).bind fun v_18 : Option Nat => (v_18).bind fun a_19 : Nat => (isC σ_17 a_19 21).bind fun u_20 : Unit => (fJ2_size σ_17 a_19).bind fun v_21 : Int32 => (nH σ_17 2 (.inr (13, [.int 0, .int 0]))).bind fun (q_23a, q_23s) => (fX15_init q_23s q_23a x2 (1 : Int32)).bind fun σ_25 : St => (nH σ_25 2 (.inr (13, [.int 0, .int 0]))).bind fun (q_26a, q_26s) => (fX15_init q_26s q_26a x2 (0 : Int32)).bind fun σ_28 : St => (gR σ_28 x0 [(12, 1)]).bind fun v_29 : Option Nat => (gR σ_28 x1 [(10, 7)]).bind fun v_30 : Option Nat => (v_30).bind fun a_31 : Nat => (v_29).bind fun a_32 : Nat => (isC σ_28 a_32 11).bind fun u_33 : Unit => (fX13_begin N σ_28 a_32 x1 a_31).bind fun (v_34, σ_35) => (isC σ_35 v_34 11).bind fun u_36 : Unit => (fX13_minutesInAll N σ_35 v_34).bind fun (v_37, σ_38) => (gI σ_38 x1 [(10, 6)]).bind fun v_39 : Int32 => if v_39 = (-1 : Int32) then fX14_find_67 N κ x0 x1 v_21 q_23a q_26a v_37 (0 : Int32) σ_38 else fX14_find_67 N κ x0 x1 v_21 q_23a q_26a v_37 (1 : Int32) σ_38
theorem wX14_find_157 {E : EV} {l : Launch} {p : Program} {e : Env} {s : State} {m : MethodId} {args : Array Value} {below : List Frame} {meth : Method} {c : Code} {R : Room} {res : (Int32 × St)} (hX : XK E) (hR : 9 ≤ R.frames ∧ 219 ≤ R.locals) (X : MX E p s m args meth c cX14_find 9 (some .boolean) RX14 "find") (N : Nat) : ∀ (x0 : Nat) (σ : St) (H : Heap) (locs : List Loc) (cells slots : Nat) (ls : Array Slot), WI E R s σ H locs cells slots → lv_has ls 9 [(0, .ref x0)] → fX14_find_157 N E.2.2.2.1 x0 σ = some res → W p l e R s m args below meth c H locs cells slots (MQ below (Qd E R.cells R.slots (some (.int res.1)) res.2) args s R.cells R.slots (fr E)) (F0 m 157 ls []) := by
  intro x0 σ H locs cells slots ls I hl hf
  obtain ⟨⟨hx, hb, hml, hown, hts⟩, -⟩ := id X
  unfold fX14_find_157 at hf
  refine lv_aload_n hx hb dX14_find_157 rfl (lv_at hl 0 rfl) ?_
  obtain ⟨v_1, ev_1, hf⟩ := ob hf
  refine g_get X I gfX14_83 (gI_in ev_1) dX14_find_158 ?_
  refine lv_iconst (v := (-1)) hx hb dX14_find_161 (by decide) ?_
  refine lv_icmp_eq (tgt := 169) hx hb dX14_find_162 (by decide) (fun c_162 => ?_) (fun c_162 => ?_)
  · have hf := ip c_162 hf
    refine lv_iconst (v := 0) hx hb dX14_find_169 (by decide) ?_
    cases os hf
    exact r_zret X I (Or.inl rfl) dX14_find_170
  · have hf := im c_162 hf
    refine lv_iconst (v := 1) hx hb dX14_find_165 (by decide) ?_
    refine lv_goto (tgt := 170) hx hb dX14_find_166 (by decide) ?_
    cases os hf
    exact r_zret X I (Or.inr rfl) dX14_find_170
theorem wX14_find_145 {E : EV} {l : Launch} {p : Program} {e : Env} {s : State} {m : MethodId} {args : Array Value} {below : List Frame} {meth : Method} {c : Code} {R : Room} {res : (Int32 × St)} (hX : XK E) (hR : 9 ≤ R.frames ∧ 219 ≤ R.locals) (X : MX E p s m args meth c cX14_find 9 (some .boolean) RX14 "find") (N : Nat) (r69 : Nat → Nat → Int32 → Nat → Nat → Int32 → Int32 → St → Option (Int32 × St)) (hr69 : ∀ (x0 : Nat) (x1 : Nat) (x3 : Int32) (x4 : Nat) (x5 : Nat) (x6 : Int32) (x7 : Int32) (σ : St) (H : Heap) (locs : List Loc) (cells slots : Nat) (ls : Array Slot), WI E R s σ H locs cells slots → lv_has ls 9 [(0, .ref x0), (1, .ref x1), (3, .int x3), (4, .ref x4), (5, .ref x5), (6, .int x6), (7, .int x7)] → r69 x0 x1 x3 x4 x5 x6 x7 σ = some res → W p l e R s m args below meth c H locs cells slots (MQ below (Qd E R.cells R.slots (some (.int res.1)) res.2) args s R.cells R.slots (fr E)) (F0 m 69 ls [])) (r89 : Nat → Nat → Int32 → Nat → Nat → Int32 → Int32 → Int32 → St → Option (Int32 × St)) (hr89 : ∀ (x0 : Nat) (x1 : Nat) (x3 : Int32) (x4 : Nat) (x5 : Nat) (x6 : Int32) (x7 : Int32) (x8 : Int32) (σ : St) (H : Heap) (locs : List Loc) (cells slots : Nat) (ls : Array Slot), WI E R s σ H locs cells slots → lv_has ls 9 [(0, .ref x0), (1, .ref x1), (3, .int x3), (4, .ref x4), (5, .ref x5), (6, .int x6), (7, .int x7), (8, .int x8)] → r89 x0 x1 x3 x4 x5 x6 x7 x8 σ = some res → W p l e R s m args below meth c H locs cells slots (MQ below (Qd E R.cells R.slots (some (.int res.1)) res.2) args s R.cells R.slots (fr E)) (F0 m 89 ls [])) : ∀ (x0 : Nat) (x1 : Nat) (x3 : Int32) (x4 : Nat) (x5 : Nat) (x6 : Int32) (x7 : Int32) (x8 : Int32) (σ : St) (H : Heap) (locs : List Loc) (cells slots : Nat) (ls : Array Slot), WI E R s σ H locs cells slots → lv_has ls 9 [(0, .ref x0), (1, .ref x1), (3, .int x3), (4, .ref x4), (5, .ref x5), (6, .int x6), (7, .int x7), (8, .int x8)] → fX14_find_145 N E.2.2.2.1 r69 r89 x0 x1 x3 x4 x5 x6 x7 x8 σ = some res → W p l e R s m args below meth c H locs cells slots (MQ below (Qd E R.cells R.slots (some (.int res.1)) res.2) args s R.cells R.slots (fr E)) (F0 m 145 ls []) := by
  intro x0 x1 x3 x4 x5 x6 x7 x8 σ H locs cells slots ls I hl hf
  obtain ⟨⟨hx, hb, hml, hown, hts⟩, -⟩ := id X
  unfold fX14_find_145 at hf
  obtain ⟨x8_2, ex8_2, hf⟩ := ol hf
  refine lv_iinc (v := x8_2) (lv' := [(8, .int x8_2), (0, .ref x0), (1, .ref x1), (3, .int x3), (4, .ref x4), (5, .ref x5), (6, .int x6), (7, .int x7)]) hx hb dX14_find_145 hl (k := 7) rfl ex8_2 (by decide) rfl (fun ls hl => ?_)
  refine lv_goto (tgt := 89) hx hb dX14_find_148 (by decide) ?_
  exact hr89 x0 x1 x3 x4 x5 x6 x7 x8_2 σ _ _ _ _ _ I (lv_sub hl [1, 2, 3, 4, 5, 6, 7, 0] rfl) hf
theorem wX14_find_89 {E : EV} {l : Launch} {p : Program} {e : Env} {s : State} {m : MethodId} {args : Array Value} {below : List Frame} {meth : Method} {c : Code} {R : Room} {res : (Int32 × St)} (hX : XK E) (hR : 9 ≤ R.frames ∧ 219 ≤ R.locals) (X : MX E p s m args meth c cX14_find 9 (some .boolean) RX14 "find") (N : Nat) (r69 : Nat → Nat → Int32 → Nat → Nat → Int32 → Int32 → St → Option (Int32 × St)) (hr69 : ∀ (x0 : Nat) (x1 : Nat) (x3 : Int32) (x4 : Nat) (x5 : Nat) (x6 : Int32) (x7 : Int32) (σ : St) (H : Heap) (locs : List Loc) (cells slots : Nat) (ls : Array Slot), WI E R s σ H locs cells slots → lv_has ls 9 [(0, .ref x0), (1, .ref x1), (3, .int x3), (4, .ref x4), (5, .ref x5), (6, .int x6), (7, .int x7)] → r69 x0 x1 x3 x4 x5 x6 x7 σ = some res → W p l e R s m args below meth c H locs cells slots (MQ below (Qd E R.cells R.slots (some (.int res.1)) res.2) args s R.cells R.slots (fr E)) (F0 m 69 ls [])) : ∀ (n : Nat) (x0 : Nat) (x1 : Nat) (x3 : Int32) (x4 : Nat) (x5 : Nat) (x6 : Int32) (x7 : Int32) (x8 : Int32) (σ : St) (H : Heap) (locs : List Loc) (cells slots : Nat) (ls : Array Slot), WI E R s σ H locs cells slots → lv_has ls 9 [(0, .ref x0), (1, .ref x1), (3, .int x3), (4, .ref x4), (5, .ref x5), (6, .int x6), (7, .int x7), (8, .int x8)] → fX14_find_89 N E.2.2.2.1 r69 n x0 x1 x3 x4 x5 x6 x7 x8 σ = some res → W p l e R s m args below meth c H locs cells slots (MQ below (Qd E R.cells R.slots (some (.int res.1)) res.2) args s R.cells R.slots (fr E)) (F0 m 89 ls []) := by
  intro n
  induction n with
  | zero => intro x0 x1 x3 x4 x5 x6 x7 x8 σ H locs cells slots ls I hl hf; exact nomatch (show none = some res from hf)
  | succ n ih =>
    intro x0 x1 x3 x4 x5 x6 x7 x8 σ H locs cells slots ls I hl hf
    obtain ⟨⟨hx, hb, hml, hown, hts⟩, -⟩ := id X
    rw [fX14_find_89.eq_2] at hf
    refine lv_iload hx hb dX14_find_89 (lv_at hl 7 rfl) ?_
    refine lv_iload_n hx hb dX14_find_91 rfl (lv_at hl 2 rfl) ?_
    refine lv_iconst (v := 1) hx hb dX14_find_92 (by decide) ?_
    refine lv_iadd hx hb dX14_find_93 ?_
    refine lv_icmp_gt (tgt := 151) hx hb dX14_find_94 (by decide) (fun c_94 => ?_) (fun c_94 => ?_)
    · have hf := ip c_94 hf
      obtain ⟨x7_3, ex7_3, hf⟩ := ol hf
      refine lv_iinc (v := x7_3) (lv' := [(7, .int x7_3), (0, .ref x0), (1, .ref x1), (3, .int x3), (4, .ref x4), (5, .ref x5), (6, .int x6), (8, .int x8)]) hx hb dX14_find_151 hl (k := 6) rfl ex7_3 (by decide) rfl (fun ls hl => ?_)
      refine lv_goto (tgt := 69) hx hb dX14_find_154 (by decide) ?_
      exact hr69 x0 x1 x3 x4 x5 x6 x7_3 σ _ _ _ _ _ I (lv_sub hl [1, 2, 3, 4, 5, 6, 0] rfl) hf
    · have hf := im c_94 hf
      refine lv_aload_n hx hb dX14_find_97 rfl (lv_at hl 0 rfl) ?_
      refine lv_aload_n hx hb dX14_find_98 rfl (lv_at hl 1 rfl) ?_
      refine lv_aload hx hb dX14_find_99 (lv_at hl 3 rfl) ?_
      refine lv_aload hx hb dX14_find_101 (lv_at hl 4 rfl) ?_
      refine lv_iload hx hb dX14_find_103 (lv_at hl 6 rfl) ?_
      refine lv_iload hx hb dX14_find_105 (lv_at hl 7 rfl) ?_
      obtain ⟨u_4, eu_4, hf⟩ := ob hf
      obtain ⟨σ_6, ev_5, hf⟩ := ob hf
      refine cg_V (vw := (RX14, TX14, 8)) (ci := 12) (r := none) (σ' := σ_6) (rs := []) (rest := []) (As := [.ref x1, .ref x4, .ref x5, .int x7, .int x8]) X I eu_4 rfl (mX14_lay hX ev_5) lvX14_98 hdX14_98 ⟨Nat.le_trans (Nat.le_of_ble_eq_true rfl) hR.1, Nat.le_trans (Nat.le_of_ble_eq_true rfl) hR.2⟩ rfl hl.1 rfl (Nat.le_of_ble_eq_true rfl) rfl dX14_find_107 (fun H locs cells slots I => ?_)
      refine lv_aload_n hx hb dX14_find_110 rfl (lv_at hl 0 rfl) ?_
      refine lv_aload_n hx hb dX14_find_111 rfl (lv_at hl 1 rfl) ?_
      refine lv_aload hx hb dX14_find_112 (lv_at hl 3 rfl) ?_
      refine lv_iload hx hb dX14_find_114 (lv_at hl 5 rfl) ?_
      obtain ⟨u_7, eu_7, hf⟩ := ob hf
      obtain ⟨⟨v_8, σ_9⟩, ev_8, hf⟩ := ob hf
      refine cg_V (vw := (RX14, TX14, 8)) (ci := 12) (r := (some (.int v_8))) (σ' := σ_9) (rs := [.int v_8]) (rest := []) (As := [.ref x1, .ref x4, .int x6]) X I eu_7 rfl (mX14_isBetter hX ev_8) lvX14_102 hdX14_102 ⟨Nat.le_trans (Nat.le_of_ble_eq_true rfl) hR.1, Nat.le_trans (Nat.le_of_ble_eq_true rfl) hR.2⟩ rfl hl.1 rfl (Nat.le_of_ble_eq_true rfl) rfl dX14_find_116 (fun H locs cells slots I => ?_)
      refine lv_if_eq (tgt := 145) hx hb dX14_find_119 (by decide) (fun c_119 => ?_) (fun c_119 => ?_)
      · have hf := ip c_119 hf
        exact wX14_find_145 hX hR X N r69 hr69 (fX14_find_89 N E.2.2.2.1 r69 n) ih x0 x1 x3 x4 x5 x6 x7 x8 σ_9 _ _ _ _ _ I (lv_sub hl [0, 1, 2, 3, 4, 5, 6, 7] rfl) hf
      · have hf := im c_119 hf
        refine lv_aload_n hx hb dX14_find_122 rfl (lv_at hl 0 rfl) ?_
        refine lv_iload hx hb dX14_find_123 (lv_at hl 6 rfl) ?_
        obtain ⟨σ_10, eσ_10, hf⟩ := ob hf
        refine g_put X I pfX14_106 rfl rfl eσ_10 dX14_find_125 (fun H locs I => ?_)
        refine lv_aload_n hx hb dX14_find_128 rfl (lv_at hl 0 rfl) ?_
        refine lv_iload hx hb dX14_find_129 (lv_at hl 7 rfl) ?_
        obtain ⟨σ_11, eσ_11, hf⟩ := ob hf
        refine g_put X I pfX14_109 rfl rfl eσ_11 dX14_find_131 (fun H locs I => ?_)
        refine lv_aload_n hx hb dX14_find_134 rfl (lv_at hl 0 rfl) ?_
        refine lv_aload_n hx hb dX14_find_135 rfl (lv_at hl 0 rfl) ?_
        refine lv_aload_n hx hb dX14_find_136 rfl (lv_at hl 1 rfl) ?_
        refine lv_aload hx hb dX14_find_137 (lv_at hl 4 rfl) ?_
        obtain ⟨u_12, eu_12, hf⟩ := ob hf
        obtain ⟨⟨v_13, σ_14⟩, ev_13, hf⟩ := ob hf
        refine cg_V (vw := (RX14, TX14, 8)) (ci := 12) (r := (some (.int v_13))) (σ' := σ_14) (rs := [.int v_13, .ref x0]) (rest := [.ref x0]) (As := [.ref x1, .ref x5]) X I eu_12 rfl (mX14_arrival hX ev_13) lvX14_112 hdX14_112 ⟨Nat.le_trans (Nat.le_of_ble_eq_true rfl) hR.1, Nat.le_trans (Nat.le_of_ble_eq_true rfl) hR.2⟩ rfl hl.1 rfl (Nat.le_of_ble_eq_true rfl) rfl dX14_find_139 (fun H locs cells slots I => ?_)
        obtain ⟨σ_15, eσ_15, hf⟩ := ob hf
        refine g_put X I pfX14_116 rfl rfl eσ_15 dX14_find_142 (fun H locs I => ?_)
        exact wX14_find_145 hX hR X N r69 hr69 (fX14_find_89 N E.2.2.2.1 r69 n) ih x0 x1 x3 x4 x5 x6 x7 x8 σ_15 _ _ _ _ _ I (lv_sub hl [0, 1, 2, 3, 4, 5, 6, 7] rfl) hf
theorem wX14_find_69 {E : EV} {l : Launch} {p : Program} {e : Env} {s : State} {m : MethodId} {args : Array Value} {below : List Frame} {meth : Method} {c : Code} {R : Room} {res : (Int32 × St)} (hX : XK E) (hR : 9 ≤ R.frames ∧ 219 ≤ R.locals) (X : MX E p s m args meth c cX14_find 9 (some .boolean) RX14 "find") (N : Nat) : ∀ (n : Nat) (x0 : Nat) (x1 : Nat) (x3 : Int32) (x4 : Nat) (x5 : Nat) (x6 : Int32) (x7 : Int32) (σ : St) (H : Heap) (locs : List Loc) (cells slots : Nat) (ls : Array Slot), WI E R s σ H locs cells slots → lv_has ls 9 [(0, .ref x0), (1, .ref x1), (3, .int x3), (4, .ref x4), (5, .ref x5), (6, .int x6), (7, .int x7)] → fX14_find_69 N E.2.2.2.1 n x0 x1 x3 x4 x5 x6 x7 σ = some res → W p l e R s m args below meth c H locs cells slots (MQ below (Qd E R.cells R.slots (some (.int res.1)) res.2) args s R.cells R.slots (fr E)) (F0 m 69 ls []) := by
  intro n
  induction n with
  | zero => intro x0 x1 x3 x4 x5 x6 x7 σ H locs cells slots ls I hl hf; exact nomatch (show none = some res from hf)
  | succ n ih =>
    intro x0 x1 x3 x4 x5 x6 x7 σ H locs cells slots ls I hl hf
    obtain ⟨⟨hx, hb, hml, hown, hts⟩, -⟩ := id X
    rw [fX14_find_69.eq_2] at hf
    refine lv_iload hx hb dX14_find_69 (lv_at hl 6 rfl) ?_
    refine lv_iload_n hx hb dX14_find_71 rfl (lv_at hl 2 rfl) ?_
    refine lv_icmp_gt (tgt := 157) hx hb dX14_find_72 (by decide) (fun c_72 => ?_) (fun c_72 => ?_)
    · have hf := ip c_72 hf
      exact wX14_find_157 hX hR X N x0 σ _ _ _ _ _ I (lv_sub hl [0] rfl) hf
    · have hf := im c_72 hf
      refine lv_iload_n hx hb dX14_find_75 rfl (lv_at hl 2 rfl) ?_
      refine lv_iconst (v := 2) hx hb dX14_find_76 (by decide) ?_
      refine lv_iadd hx hb dX14_find_77 ?_
      refine lv_bipush (v := 12) hx hb dX14_find_78 (by decide) ?_
      refine lv_icmp_gt (tgt := 157) hx hb dX14_find_80 (by decide) (fun c_80 => ?_) (fun c_80 => ?_)
      · have hf := ip c_80 hf
        exact wX14_find_157 hX hR X N x0 σ _ _ _ _ _ I (lv_sub hl [0] rfl) hf
      · have hf := im c_80 hf
        refine lv_iload hx hb dX14_find_83 (lv_at hl 6 rfl) ?_
        refine lv_iconst (v := 1) hx hb dX14_find_85 (by decide) ?_
        refine lv_iadd hx hb dX14_find_86 ?_
        obtain ⟨x8_16, ex8_16, hf⟩ := ol hf
        refine nm_i ex8_16 ?_
        refine lv_istore (lv' := [(8, .int x8_16), (0, .ref x0), (1, .ref x1), (3, .int x3), (4, .ref x4), (5, .ref x5), (6, .int x6), (7, .int x7)]) hx hb dX14_find_87 hl (by decide) rfl (fun ls hl => ?_)
        exact wX14_find_89 hX hR X N (fX14_find_69 N E.2.2.2.1 n) ih N x0 x1 x3 x4 x5 x6 x7 x8_16 σ _ _ _ _ _ I (lv_sub hl [1, 2, 3, 4, 5, 6, 7, 0] rfl) hf
theorem wX14_find_67 {E : EV} {l : Launch} {p : Program} {e : Env} {s : State} {m : MethodId} {args : Array Value} {below : List Frame} {meth : Method} {c : Code} {R : Room} {res : (Int32 × St)} (hX : XK E) (hR : 9 ≤ R.frames ∧ 219 ≤ R.locals) (X : MX E p s m args meth c cX14_find 9 (some .boolean) RX14 "find") (N : Nat) : ∀ (x0 : Nat) (x1 : Nat) (x3 : Int32) (x4 : Nat) (x5 : Nat) (x6 : Int32) (y0 : Int32) (σ : St) (H : Heap) (locs : List Loc) (cells slots : Nat) (ls : Array Slot), WI E R s σ H locs cells slots → lv_has ls 9 [(0, .ref x0), (1, .ref x1), (3, .int x3), (4, .ref x4), (5, .ref x5), (6, .int x6)] → fX14_find_67 N E.2.2.2.1 x0 x1 x3 x4 x5 x6 y0 σ = some res → W p l e R s m args below meth c H locs cells slots (MQ below (Qd E R.cells R.slots (some (.int res.1)) res.2) args s R.cells R.slots (fr E)) (F0 m 67 ls [.int y0]) := by
  intro x0 x1 x3 x4 x5 x6 y0 σ H locs cells slots ls I hl hf
  obtain ⟨⟨hx, hb, hml, hown, hts⟩, -⟩ := id X
  unfold fX14_find_67 at hf
  refine lv_istore (lv' := [(7, .int y0), (0, .ref x0), (1, .ref x1), (3, .int x3), (4, .ref x4), (5, .ref x5), (6, .int x6)]) hx hb dX14_find_67 hl (by decide) rfl (fun ls hl => ?_)
  exact wX14_find_69 hX hR X N N x0 x1 x3 x4 x5 x6 y0 σ _ _ _ _ _ I (lv_sub hl [1, 2, 3, 4, 5, 6, 0] rfl) hf
theorem wX14_find_0 {E : EV} {l : Launch} {p : Program} {e : Env} {s : State} {m : MethodId} {args : Array Value} {below : List Frame} {meth : Method} {c : Code} {R : Room} {res : (Int32 × St)} (hX : XK E) (hR : 9 ≤ R.frames ∧ 219 ≤ R.locals) (X : MX E p s m args meth c cX14_find 9 (some .boolean) RX14 "find") (N : Nat) : ∀ (x0 : Nat) (x1 : Nat) (x2 : Int32) (σ : St) (H : Heap) (locs : List Loc) (cells slots : Nat) (ls : Array Slot), WI E R s σ H locs cells slots → lv_has ls 9 [(0, .ref x0), (1, .ref x1), (2, .int x2)] → fX14_find N E.2.2.2.1 σ x0 x1 x2 = some res → W p l e R s m args below meth c H locs cells slots (MQ below (Qd E R.cells R.slots (some (.int res.1)) res.2) args s R.cells R.slots (fr E)) (F0 m 0 ls []) := by
  intro x0 x1 x2 σ H locs cells slots ls I hl hf
  obtain ⟨⟨hx, hb, hml, hown, hts⟩, -⟩ := id X
  unfold fX14_find at hf
  refine lv_aload_n hx hb dX14_find_0 rfl (lv_at hl 0 rfl) ?_
  refine lv_iconst (v := (-1)) hx hb dX14_find_1 (by decide) ?_
  obtain ⟨σ_17, eσ_17, hf⟩ := ob hf
  refine g_put X I pfX14_83 rfl rfl eσ_17 dX14_find_2 (fun H locs I => ?_)
  refine lv_aload_n hx hb dX14_find_5 rfl (lv_at hl 1 rfl) ?_
  obtain ⟨v_18, ev_18, hf⟩ := ob hf
  refine g_getN hX X I gfX14_36 (gR_in ev_18) dX14_find_6 ?_
  obtain ⟨a_19, ea_19, hga_19⟩ := ob hf
  have hla_19 := hl
  have Ia_19 := I
  subst ea_19
  have hf := hga_19
  have hl := hla_19
  have I := Ia_19
  obtain ⟨u_20, eu_20, hf⟩ := ob hf
  obtain ⟨v_21, ev_21, hf⟩ := ob hf
  refine cg_F (vw := (RJ2, TJ2, 3)) (ci := 21) (r := (some (.int v_21))) (σ' := σ_17) (rs := [.int v_21]) (rest := []) (As := []) hX X I eu_20 rfl (mJ2_size hX ev_21) lvX14_41_J2 hdX14_41_J2 ⟨Nat.le_trans (Nat.le_of_ble_eq_true rfl) hR.1, Nat.le_trans (Nat.le_of_ble_eq_true rfl) hR.2⟩ rfl hl.1 rfl (Nat.le_of_ble_eq_true rfl) rfl dX14_find_9 (fun H locs cells slots I => ?_)
  refine lv_istore_n (lv' := [(3, .int v_21), (0, .ref x0), (1, .ref x1), (2, .int x2)]) hx hb dX14_find_14 rfl hl (by decide) rfl (fun ls hl => ?_)
  obtain ⟨⟨q_23a, q_23s⟩, eq_23, hf⟩ := ob hf
  refine g_new X I noX14_53 eq_23 dX14_find_15 (fun H locs cells slots I => ?_)
  refine lv_dup hx hb dX14_find_18 rfl ?_
  refine lv_iload_n hx hb dX14_find_19 rfl (lv_at hl 3 rfl) ?_
  refine lv_iconst (v := 1) hx hb dX14_find_20 (by decide) ?_
  obtain ⟨σ_25, ev_24, hf⟩ := ob hf
  refine cm_I (σ' := σ_25) (rs := [.ref q_23a]) (rest := [.ref q_23a]) (As := [.int x2, .int (1 : Int32)]) X I (mX15_init hX ev_24) lvX14_89 hdX14_89 ⟨Nat.le_trans (Nat.le_of_ble_eq_true rfl) hR.1, Nat.le_trans (Nat.le_of_ble_eq_true rfl) hR.2⟩ rfl hl.1 rfl (Nat.le_of_ble_eq_true rfl) rfl dX14_find_21 (fun H locs cells slots I => ?_)
  refine lv_astore (lv' := [(4, .ref q_23a), (3, .int v_21), (0, .ref x0), (1, .ref x1), (2, .int x2)]) hx hb dX14_find_24 hl (by decide) rfl (fun ls hl => ?_)
  obtain ⟨⟨q_26a, q_26s⟩, eq_26, hf⟩ := ob hf
  refine g_new X I noX14_53 eq_26 dX14_find_26 (fun H locs cells slots I => ?_)
  refine lv_dup hx hb dX14_find_29 rfl ?_
  refine lv_iload_n hx hb dX14_find_30 rfl (lv_at hl 4 rfl) ?_
  refine lv_iconst (v := 0) hx hb dX14_find_31 (by decide) ?_
  obtain ⟨σ_28, ev_27, hf⟩ := ob hf
  refine cm_I (σ' := σ_28) (rs := [.ref q_26a]) (rest := [.ref q_26a]) (As := [.int x2, .int (0 : Int32)]) X I (mX15_init hX ev_27) lvX14_89 hdX14_89 ⟨Nat.le_trans (Nat.le_of_ble_eq_true rfl) hR.1, Nat.le_trans (Nat.le_of_ble_eq_true rfl) hR.2⟩ rfl hl.1 rfl (Nat.le_of_ble_eq_true rfl) rfl dX14_find_32 (fun H locs cells slots I => ?_)
  refine lv_astore (lv' := [(5, .ref q_26a), (4, .ref q_23a), (3, .int v_21), (0, .ref x0), (1, .ref x1), (2, .int x2)]) hx hb dX14_find_35 hl (by decide) rfl (fun ls hl => ?_)
  refine lv_aload_n hx hb dX14_find_37 rfl (lv_at hl 3 rfl) ?_
  obtain ⟨v_29, ev_29, hf⟩ := ob hf
  refine g_get X I gfX14_27 (gR_in ev_29) dX14_find_38 ?_
  refine lv_aload_n hx hb dX14_find_41 rfl (lv_at hl 4 rfl) ?_
  refine lv_aload_n hx hb dX14_find_42 rfl (lv_at hl 4 rfl) ?_
  obtain ⟨v_30, ev_30, hf⟩ := ob hf
  refine g_getN hX X I gfX14_36 (gR_in ev_30) dX14_find_43 ?_
  obtain ⟨a_31, ea_31, hga_31⟩ := ob hf
  have hla_31 := hl
  have Ia_31 := I
  subst ea_31
  have hf := hga_31
  have hl := hla_31
  have I := Ia_31
  obtain ⟨a_32, ea_32, hga_32⟩ := ob hf
  have hla_32 := hl
  have Ia_32 := I
  subst ea_32
  have hf := hga_32
  have hl := hla_32
  have I := Ia_32
  obtain ⟨u_33, eu_33, hf⟩ := ob hf
  obtain ⟨⟨v_34, σ_35⟩, ev_34, hf⟩ := ob hf
  refine cg_V (vw := (RX13, TX13, 17)) (ci := 11) (r := (some (.ref v_34))) (σ' := σ_35) (rs := [.ref v_34]) (rest := []) (As := [.ref x1, .ref a_31]) X I eu_33 rfl (mX13_begin hX ev_34) lvX14_58 hdX14_58 ⟨Nat.le_trans (Nat.le_of_ble_eq_true rfl) hR.1, Nat.le_trans (Nat.le_of_ble_eq_true rfl) hR.2⟩ rfl hl.1 rfl (Nat.le_of_ble_eq_true rfl) rfl dX14_find_46 (fun H locs cells slots I => ?_)
  obtain ⟨u_36, eu_36, hf⟩ := ob hf
  obtain ⟨⟨v_37, σ_38⟩, ev_37, hf⟩ := ob hf
  refine cg_V (vw := (RX13, TX13, 17)) (ci := 11) (r := (some (.int v_37))) (σ' := σ_38) (rs := [.int v_37]) (rest := []) (As := []) X I eu_36 rfl (mX13_minutesInAll hX ev_37) lvX14_92 hdX14_92 ⟨Nat.le_trans (Nat.le_of_ble_eq_true rfl) hR.1, Nat.le_trans (Nat.le_of_ble_eq_true rfl) hR.2⟩ rfl hl.1 rfl (Nat.le_of_ble_eq_true rfl) rfl dX14_find_49 (fun H locs cells slots I => ?_)
  refine lv_istore (lv' := [(6, .int v_37), (5, .ref q_26a), (4, .ref q_23a), (3, .int v_21), (0, .ref x0), (1, .ref x1), (2, .int x2)]) hx hb dX14_find_52 hl (by decide) rfl (fun ls hl => ?_)
  refine lv_aload_n hx hb dX14_find_54 rfl (lv_at hl 5 rfl) ?_
  obtain ⟨v_39, ev_39, hf⟩ := ob hf
  refine g_getN hX X I gfX14_95 (gI_in ev_39) dX14_find_55 ?_
  refine lv_iconst (v := (-1)) hx hb dX14_find_58 (by decide) ?_
  refine lv_icmp_ne (tgt := 66) hx hb dX14_find_59 (by decide) (fun c_59 => ?_) (fun c_59 => ?_)
  · have hf := im c_59 hf
    refine lv_iconst (v := 1) hx hb dX14_find_66 (by decide) ?_
    exact wX14_find_67 hX hR X N x0 x1 v_21 q_23a q_26a v_37 (1 : Int32) σ_38 _ _ _ _ _ I (lv_sub hl [4, 5, 3, 2, 1, 0] rfl) hf
  · have hf := ip c_59 hf
    refine lv_iconst (v := 0) hx hb dX14_find_62 (by decide) ?_
    refine lv_goto (tgt := 67) hx hb dX14_find_63 (by decide) ?_
    exact wX14_find_67 hX hR X N x0 x1 v_21 q_23a q_26a v_37 (0 : Int32) σ_38 _ _ _ _ _ I (lv_sub hl [4, 5, 3, 2, 1, 0] rfl) hf
theorem mX14_find {E : EV} {l : Launch} {N : Nat} {σ : St} {x0 : Nat} {x1 : Nat} {x2 : Int32} {res : (Int32 × St)} (hX : XK E) (hf : fX14_find N E.2.2.2.1 σ x0 x1 x2 = some res) : CM E l yX14_find (ws_ yX14_find cX14_find 9 (some .boolean)) 9 219 [.ref x0, .ref x1, .int x2] σ (some (.int res.1)) res.2 := by
  refine CM.of hX.1 (by decide) rfl rfl (Nat.le_of_ble_eq_true rfl) ?_
  intro p e s m below meth c X I ls hl
  exact wX14_find_0 hX ⟨Nat.le_refl _, Nat.le_refl _⟩ X N _ _ _ _ _ _ _ _ _ I hl hf
/-! SharedTaxis.extra(II)I imp=True fuel=True kap=True rt=I thr=True -/
theorem noX1_358 : NO RX1 358 12 8 [.null, .null, .null, .int 0, .int 0, .int 0, .int 0, .int 0] := ⟨RX14, TX14, tyX14, rfl, in_X14, tyX14_ok, by decide, q1765, q1766, q150⟩
theorem lvX1_360 : GoodIn lw_all (ws_ yX14_init cX14_init 2 none) ∧ Cond.initialized yX14_init.cls ∈ lw_all ∧ Cond.methodLink RX1 360 yX14_init ∈ lw_all ∧ Cond.instanceMethod yX14_init ∈ lw_all ∧ yX14_init.name = "<init>" := ⟨lw_meth q1769, q150, q1767, q1768, rfl⟩
theorem hdX1_360 : yX14_init.cls ≠ "java/lang/invoke/MethodHandle" ∧ yX14_init.cls ≠ "java/lang/invoke/VarHandle" ∧ (parseMethodDescriptor yX14_init.desc).map (fun d => d.parameters.length) = some 1 := by decide +kernel
theorem lvX1_361 : GoodIn lw_all (wsV RX1 361 RX14 yX14_find (ws_ yX14_find cX14_find 9 (some .boolean))) := lw_V q1805 q1806 q1807 q150 q1808
theorem hdX1_361 : yX14_find.cls = RX14 ∧ yX14_find.cls ≠ "java/lang/invoke/MethodHandle" ∧ yX14_find.cls ≠ "java/lang/invoke/VarHandle" ∧ (parseMethodDescriptor yX14_find.desc).map (fun d => d.parameters.length) = some 2 := by decide +kernel
theorem gfX1_365 : ∀ q ∈ ([(12, 3)] : List (Nat × Nat)), GN RX1 365 q := List.forall_mem_cons.mpr ⟨⟨RX14, TX14, 8, _, rfl, in_X14, by decide, q1780⟩, fun _ h => by cases h⟩
def fX1_extra (N : Nat) (κ : Nat → Nat) (σ : St) (x0 : Nat) (x1 : Int32) (x2 : Int32) : Option ((Int32 ⊕ Nat) × St) := (isC σ x0 0).bind fun u_1 : Unit => (fX1_rideAt σ x0 x1).bind fun (v_2, σ_3) => se v_2 (fun v_4 => (isC σ_3 x0 0).bind fun u_6 : Unit => (fX1_taxiAt σ_3 x0 x2).bind fun (v_7, σ_8) => se v_7 (fun v_9 => (nH σ_8 8 (.inr (12, [.null, .null, .null, .int 0, .int 0, .int 0, .int 0, .int 0]))).bind fun (q_11a, q_11s) => (gR q_11s x0 [(0, 3)]).bind fun v_12 : Option Nat => (v_12).bind fun a_13 : Nat => (fX14_init κ q_11s q_11a a_13).bind fun σ_15 : St => (gI σ_15 v_4 [(14, 8)]).bind fun v_16 : Int32 => if v_16 = 0 then (isC σ_15 q_11a 12).bind fun u_17 : Unit => (fX14_find N κ σ_15 q_11a v_9 x1).bind fun (v_18, σ_19) => if v_18 = 0 then some (.inl (-1 : Int32), σ_19) else (gI σ_19 q_11a [(12, 3)]).bind fun v_20 : Int32 => some (.inl v_20, σ_19) else some (.inl (-1 : Int32), σ_15)) (fun q_10 => (isX σ_8 q_10).bind fun uq_10 : Unit => some (.inr q_10, σ_8))) (fun q_5 => (isX σ_3 q_5).bind fun uq_5 : Unit => some (.inr q_5, σ_3))
theorem wX1_extra_0 {E : EV} {l : Launch} {p : Program} {e : Env} {s : State} {m : MethodId} {args : Array Value} {below : List Frame} {meth : Method} {c : Code} {R : Room} {res : ((Int32 ⊕ Nat) × St)} (hX : XK E) (hR : 10 ≤ R.frames ∧ 247 ≤ R.locals) (X : MX E p s m args meth c cX1_extra 6 (some .int) RX1 "extra") (XH : MH c []) (hS : l.stackTraces = false) (N : Nat) : ∀ (x0 : Nat) (x1 : Int32) (x2 : Int32) (σ : St) (H : Heap) (locs : List Loc) (cells slots : Nat) (ls : Array Slot), WI E R s σ H locs cells slots → lv_has ls 6 [(0, .ref x0), (1, .int x1), (2, .int x2)] → fX1_extra N E.2.2.2.1 σ x0 x1 x2 = some res → W p l e R s m args below meth c H locs cells slots (vx_MQ below (QS E R.cells R.slots (sv (fun v => (some (.int v))) res.1) res.2) (XS E R.cells R.slots (sx res.1) res.2) args s R.cells R.slots (fr E)) (F0 m 0 ls []) := by
  intro x0 x1 x2 σ H locs cells slots ls I hl hf
  obtain ⟨⟨hx, hb, hml, hown, hts⟩, -⟩ := id X
  unfold fX1_extra at hf
  refine lv_aload_n hx hb dX1_extra_0 rfl (lv_at hl 0 rfl) ?_
  refine lv_iload_n hx hb dX1_extra_1 rfl (lv_at hl 1 rfl) ?_
  obtain ⟨u_1, eu_1, hf⟩ := ob hf
  obtain ⟨⟨v_2, σ_3⟩, ev_2, hf⟩ := ob hf
  have hgv_2 := hf
  rcases v_2 with v_4 | q_5
  · have hf := se_l hgv_2
    refine cx_ret (r := (some (.ref v_4))) (rs := [.ref v_4]) I (xr_V (vw := (RX1, TX1, 7)) (ci := 0) (σ' := σ_3) (rest := []) (As := [.int x1]) X I eu_1 rfl (mX1_rideAt hX hS ev_2) lvX1_309 hdX1_309 ⟨Nat.le_trans (Nat.le_of_ble_eq_true rfl) hR.1, Nat.le_trans (Nat.le_of_ble_eq_true rfl) hR.2⟩ rfl hl.1 rfl (Nat.le_of_ble_eq_true rfl) dX1_extra_2) rfl (fun H locs cells slots I => ?_)
    refine lv_astore_n (lv' := [(3, .ref v_4), (0, .ref x0), (1, .int x1), (2, .int x2)]) hx hb dX1_extra_5 rfl hl (by decide) rfl (fun ls hl => ?_)
    refine lv_aload_n hx hb dX1_extra_6 rfl (lv_at hl 1 rfl) ?_
    refine lv_iload_n hx hb dX1_extra_7 rfl (lv_at hl 3 rfl) ?_
    obtain ⟨u_6, eu_6, hf⟩ := ob hf
    obtain ⟨⟨v_7, σ_8⟩, ev_7, hf⟩ := ob hf
    have hgv_7 := hf
    rcases v_7 with v_9 | q_10
    · have hf := se_l hgv_7
      refine cx_ret (r := (some (.ref v_9))) (rs := [.ref v_9]) I (xr_V (vw := (RX1, TX1, 7)) (ci := 0) (σ' := σ_8) (rest := []) (As := [.int x2]) X I eu_6 rfl (mX1_taxiAt hX hS ev_7) lvX1_238 hdX1_238 ⟨Nat.le_trans (Nat.le_of_ble_eq_true rfl) hR.1, Nat.le_trans (Nat.le_of_ble_eq_true rfl) hR.2⟩ rfl hl.1 rfl (Nat.le_of_ble_eq_true rfl) dX1_extra_8) rfl (fun H locs cells slots I => ?_)
      refine lv_astore (lv' := [(4, .ref v_9), (3, .ref v_4), (0, .ref x0), (1, .int x1), (2, .int x2)]) hx hb dX1_extra_11 hl (by decide) rfl (fun ls hl => ?_)
      obtain ⟨⟨q_11a, q_11s⟩, eq_11, hf⟩ := ob hf
      refine g_new X I noX1_358 eq_11 dX1_extra_13 (fun H locs cells slots I => ?_)
      refine lv_dup hx hb dX1_extra_16 rfl ?_
      refine lv_aload_n hx hb dX1_extra_17 rfl (lv_at hl 2 rfl) ?_
      obtain ⟨v_12, ev_12, hf⟩ := ob hf
      refine g_get X I gfX1_87 (gR_in ev_12) dX1_extra_18 ?_
      obtain ⟨a_13, ea_13, hga_13⟩ := ob hf
      have hla_13 := hl
      have Ia_13 := I
      subst ea_13
      have hf := hga_13
      have hl := hla_13
      have I := Ia_13
      obtain ⟨σ_15, ev_14, hf⟩ := ob hf
      refine cm_I (σ' := σ_15) (rs := [.ref q_11a]) (rest := [.ref q_11a]) (As := [.ref a_13]) X I (mX14_init hX ev_14) lvX1_360 hdX1_360 ⟨Nat.le_trans (Nat.le_of_ble_eq_true rfl) hR.1, Nat.le_trans (Nat.le_of_ble_eq_true rfl) hR.2⟩ rfl hl.1 rfl (Nat.le_of_ble_eq_true rfl) rfl dX1_extra_21 (fun H locs cells slots I => ?_)
      refine lv_astore (lv' := [(5, .ref q_11a), (4, .ref v_9), (3, .ref v_4), (0, .ref x0), (1, .int x1), (2, .int x2)]) hx hb dX1_extra_24 hl (by decide) rfl (fun ls hl => ?_)
      refine lv_aload_n hx hb dX1_extra_26 rfl (lv_at hl 2 rfl) ?_
      obtain ⟨v_16, ev_16, hf⟩ := ob hf
      refine g_getN hX X I gfX1_313 (gI_in ev_16) dX1_extra_27 ?_
      refine lv_if_ne (tgt := 52) hx hb dX1_extra_30 (by decide) (fun c_30 => ?_) (fun c_30 => ?_)
      · have hf := im c_30 hf
        refine lv_iconst (v := (-1)) hx hb dX1_extra_52 (by decide) ?_
        cases os hf
        exact x_ret (r_iret X I dX1_extra_53)
      · have hf := ip c_30 hf
        refine lv_aload hx hb dX1_extra_33 (lv_at hl 0 rfl) ?_
        refine lv_aload hx hb dX1_extra_35 (lv_at hl 1 rfl) ?_
        refine lv_iload_n hx hb dX1_extra_37 rfl (lv_at hl 4 rfl) ?_
        obtain ⟨u_17, eu_17, hf⟩ := ob hf
        obtain ⟨⟨v_18, σ_19⟩, ev_18, hf⟩ := ob hf
        refine cg_V (vw := (RX14, TX14, 8)) (ci := 12) (r := (some (.int v_18))) (σ' := σ_19) (rs := [.int v_18]) (rest := []) (As := [.ref v_9, .int x1]) X I eu_17 rfl (mX14_find hX ev_18) lvX1_361 hdX1_361 ⟨Nat.le_trans (Nat.le_of_ble_eq_true rfl) hR.1, Nat.le_trans (Nat.le_of_ble_eq_true rfl) hR.2⟩ rfl hl.1 rfl (Nat.le_of_ble_eq_true rfl) rfl dX1_extra_38 (fun H locs cells slots I => ?_)
        refine lv_if_eq (tgt := 52) hx hb dX1_extra_41 (by decide) (fun c_41 => ?_) (fun c_41 => ?_)
        · have hf := ip c_41 hf
          refine lv_iconst (v := (-1)) hx hb dX1_extra_52 (by decide) ?_
          cases os hf
          exact x_ret (r_iret X I dX1_extra_53)
        · have hf := im c_41 hf
          refine lv_aload hx hb dX1_extra_44 (lv_at hl 0 rfl) ?_
          obtain ⟨v_20, ev_20, hf⟩ := ob hf
          refine g_getN hX X I gfX1_365 (gI_in ev_20) dX1_extra_46 ?_
          refine lv_goto (tgt := 53) hx hb dX1_extra_49 (by decide) ?_
          cases os hf
          exact x_ret (r_iret X I dX1_extra_53)
    · have hf := se_r hgv_7
      obtain ⟨uq_10, eq_10, hf⟩ := ob hf
      cases os hf
      refine cx_thr I (xr_V (vw := (RX1, TX1, 7)) (ci := 0) (σ' := σ_8) (rest := []) (As := [.int x2]) X I eu_6 rfl (mX1_taxiAt hX hS ev_7) lvX1_238 hdX1_238 ⟨Nat.le_trans (Nat.le_of_ble_eq_true rfl) hR.1, Nat.le_trans (Nat.le_of_ble_eq_true rfl) hR.2⟩ rfl hl.1 rfl (Nat.le_of_ble_eq_true rfl) dX1_extra_8) (fun H locs cells slots I => ?_)
      exact x_out X XH rfl I eq_10
  · have hf := se_r hgv_2
    obtain ⟨uq_5, eq_5, hf⟩ := ob hf
    cases os hf
    refine cx_thr I (xr_V (vw := (RX1, TX1, 7)) (ci := 0) (σ' := σ_3) (rest := []) (As := [.int x1]) X I eu_1 rfl (mX1_rideAt hX hS ev_2) lvX1_309 hdX1_309 ⟨Nat.le_trans (Nat.le_of_ble_eq_true rfl) hR.1, Nat.le_trans (Nat.le_of_ble_eq_true rfl) hR.2⟩ rfl hl.1 rfl (Nat.le_of_ble_eq_true rfl) dX1_extra_2) (fun H locs cells slots I => ?_)
    exact x_out X XH rfl I eq_5
theorem mX1_extra {E : EV} {l : Launch} {N : Nat} {σ : St} {x0 : Nat} {x1 : Int32} {x2 : Int32} {res : ((Int32 ⊕ Nat) × St)} (hX : XK E) (hS : l.stackTraces = false) (hf : fX1_extra N E.2.2.2.1 σ x0 x1 x2 = some res) : CX E l yX1_extra (ws_ yX1_extra cX1_extra 6 (some .int)) 10 247 [.ref x0, .int x1, .int x2] σ (sv (fun v => (some (.int v))) res.1) (sx res.1) res.2 := by
  refine CX.of hX.1 (by decide) rfl rfl (Nat.le_of_ble_eq_true rfl) ?_
  intro p e s m below meth c X XH I ls hl
  exact wX1_extra_0 hX ⟨Nat.le_refl _, Nat.le_refl _⟩ X XH hS N _ _ _ _ _ _ _ _ _ I hl hf
/-! SharedTaxisLaw.extra(LSharedTaxis;II[J)I imp=True fuel=True kap=True rt=I thr=False -/
theorem lvX0_43 : GoodIn lw_all (wsV RX0 43 RX1 yX1_extra (ws_ yX1_extra cX1_extra 6 (some .int))) := lw_V q1761 q1762 q1763 q113 q1764
theorem hdX0_43 : yX1_extra.cls = RX1 ∧ yX1_extra.cls ≠ "java/lang/invoke/MethodHandle" ∧ yX1_extra.cls ≠ "java/lang/invoke/VarHandle" ∧ (parseMethodDescriptor yX1_extra.desc).map (fun d => d.parameters.length) = some 2 := by decide +kernel
def fX0_extra (N : Nat) (κ : Nat → Nat) (σ : St) (x0 : Nat) (x1 : Int32) (x2 : Int32) (x3 : Nat) : Option (Int32 × St) := (isC σ x0 0).bind fun u_1 : Unit => (fX1_extra N κ σ x0 x1 x2).bind fun (v_2, σ_3) => se v_2 (fun v_4 => (sJ σ_3 x3 (0 : Int32) (v_4.toInt64)).bind fun σ_6 : St => some ((0 : Int32), σ_6)) (fun q_5 => (clsX σ_3 q_5).bind fun c_7 : Nat => if c_7 = 34 then some ((1 : Int32), σ_3) else none)
theorem wX0_extra_0 {E : EV} {l : Launch} {p : Program} {e : Env} {s : State} {m : MethodId} {args : Array Value} {below : List Frame} {meth : Method} {c : Code} {R : Room} {res : (Int32 × St)} (hX : XK E) (hR : 11 ≤ R.frames ∧ 272 ≤ R.locals) (X : MX E p s m args meth c cX0_extra 5 (some .int) RX0 "extra") (XH : MH c [(0, 10, 13, 18)]) (hS : l.stackTraces = false) (N : Nat) : ∀ (x0 : Nat) (x1 : Int32) (x2 : Int32) (x3 : Nat) (σ : St) (H : Heap) (locs : List Loc) (cells slots : Nat) (ls : Array Slot), WI E R s σ H locs cells slots → lv_has ls 5 [(0, .ref x0), (1, .int x1), (2, .int x2), (3, .ref x3)] → fX0_extra N E.2.2.2.1 σ x0 x1 x2 x3 = some res → W p l e R s m args below meth c H locs cells slots (vx_MQ below (QS E R.cells R.slots (some (some (.int res.1))) res.2) (XS E R.cells R.slots none res.2) args s R.cells R.slots (fr E)) (F0 m 0 ls []) := by
  intro x0 x1 x2 x3 σ H locs cells slots ls I hl hf
  obtain ⟨⟨hx, hb, hml, hown, hts⟩, -⟩ := id X
  unfold fX0_extra at hf
  refine lv_aload_n hx hb dX0_extra_0 rfl (lv_at hl 3 rfl) ?_
  refine lv_iconst (v := 0) hx hb dX0_extra_1 (by decide) ?_
  refine lv_aload_n hx hb dX0_extra_2 rfl (lv_at hl 0 rfl) ?_
  refine lv_iload_n hx hb dX0_extra_3 rfl (lv_at hl 1 rfl) ?_
  refine lv_iload_n hx hb dX0_extra_4 rfl (lv_at hl 2 rfl) ?_
  obtain ⟨u_1, eu_1, hf⟩ := ob hf
  obtain ⟨⟨v_2, σ_3⟩, ev_2, hf⟩ := ob hf
  have hgv_2 := hf
  rcases v_2 with v_4 | q_5
  · have hf := se_l hgv_2
    refine cx_ret (r := (some (.int v_4))) (rs := [.int v_4, .int (0 : Int32), .ref x3]) I (xr_V (vw := (RX1, TX1, 7)) (ci := 0) (σ' := σ_3) (rest := [.int (0 : Int32), .ref x3]) (As := [.int x1, .int x2]) X I eu_1 rfl (mX1_extra hX hS ev_2) lvX0_43 hdX0_43 ⟨Nat.le_trans (Nat.le_of_ble_eq_true rfl) hR.1, Nat.le_trans (Nat.le_of_ble_eq_true rfl) hR.2⟩ rfl hl.1 rfl (Nat.le_of_ble_eq_true rfl) dX0_extra_5) rfl (fun H locs cells slots I => ?_)
    refine lv_i2l hx hb dX0_extra_8 rfl ?_
    obtain ⟨σ_6, eσ_6, hf⟩ := ob hf
    refine g_last X I eσ_6 dX0_extra_9 (fun H locs I => ?_)
    refine lv_goto (tgt := 17) hx hb dX0_extra_10 (by decide) ?_
    refine lv_iconst (v := 0) hx hb dX0_extra_17 (by decide) ?_
    cases os hf
    exact x_ret (r_iret X I dX0_extra_18)
  · have hf := se_r hgv_2
    obtain ⟨c_7, ec_7, hf⟩ := ob hf
    refine cx_thr I (xr_V (vw := (RX1, TX1, 7)) (ci := 0) (σ' := σ_3) (rest := [.int (0 : Int32), .ref x3]) (As := [.int x1, .int x2]) X I eu_1 rfl (mX1_extra hX hS ev_2) lvX0_43 hdX0_43 ⟨Nat.le_trans (Nat.le_of_ble_eq_true rfl) hR.1, Nat.le_trans (Nat.le_of_ble_eq_true rfl) hR.2⟩ rfl hl.1 rfl (Nat.le_of_ble_eq_true rfl) dX0_extra_5) (fun H locs cells slots I => ?_)
    by_cases cc_7_E22 : c_7 = 34
    · have hf := ip cc_7_E22 hf
      refine x_catch (vw := (RJ22, TJ22, 0)) hX X XH I (cc_7_E22 ▸ ec_7) rfl ((tableOf [(0, 10, 13, 18)]).take 0) _ _ rfl (fun z hz => nomatch hz) rfl (by decide) q1558 q417 ?_
      refine lv_astore (lv' := [(4, .ref q_5), (0, .ref x0), (1, .int x1), (2, .int x2), (3, .ref x3)]) hx hb dX0_extra_13 hl (by decide) rfl (fun ls hl => ?_)
      refine lv_iconst (v := 1) hx hb dX0_extra_15 (by decide) ?_
      cases os hf
      exact x_ret (r_iret X I dX0_extra_16)
    · have hf := im cc_7_E22 hf
      exact nomatch hf
theorem mX0_extra {E : EV} {l : Launch} {N : Nat} {σ : St} {x0 : Nat} {x1 : Int32} {x2 : Int32} {x3 : Nat} {res : (Int32 × St)} (hX : XK E) (hS : l.stackTraces = false) (hf : fX0_extra N E.2.2.2.1 σ x0 x1 x2 x3 = some res) : CX E l yX0_extra (wsW_ yX0_extra cX0_extra 5 (some .int) [(0, 10, 13, 18)]) 11 272 [.ref x0, .int x1, .int x2, .ref x3] σ (some (some (.int res.1))) none res.2 := by
  refine CX.ofH hX.1 (by decide) rfl rfl (Nat.le_of_ble_eq_true rfl) ?_
  intro p e s m below meth c X XH I ls hl
  exact wX0_extra_0 hX ⟨Nat.le_refl _, Nat.le_refl _⟩ X XH hS N _ _ _ _ _ _ _ _ _ _ I hl hf
/-! java/util/ArrayList.toArray()[Ljava/lang/Object; imp=True fuel=False kap=True rt=N thr=False -/
def fJ2_toArray (κ : Nat → Nat) (σ : St) (x0 : Nat) : Option (Nat × St) := (gR σ x0 [(21, 1)]).bind fun v_1 : Option Nat => (gI σ x0 [(21, 2)]).bind fun v_2 : Int32 => (v_1).bind fun a_3 : Nat => (fJ14_copyOf_2 κ σ a_3 v_2).bind fun (v_4, σ_5) => some ((v_4), σ_5)
theorem wJ2_toArray_0 {E : EV} {l : Launch} {p : Program} {e : Env} {s : State} {m : MethodId} {args : Array Value} {below : List Frame} {meth : Method} {c : Code} {R : Room} {res : (Nat × St)} (hX : XK E) (hR : 3 ≤ R.frames ∧ 84 ≤ R.locals) (X : MX E p s m args meth c cJ2_toArray 1 (some (.array (.object "java/lang/Object"))) RJ2 "toArray") : ∀ (x0 : Nat) (σ : St) (H : Heap) (locs : List Loc) (cells slots : Nat) (ls : Array Slot), WI E R s σ H locs cells slots → lv_has ls 1 [(0, .ref x0)] → fJ2_toArray E.2.2.2.1 σ x0 = some res → W p l e R s m args below meth c H locs cells slots (MQ below (Qd E R.cells R.slots (some (.ref res.1)) res.2) args s R.cells R.slots (fr E)) (F0 m 0 ls []) := by
  intro x0 σ H locs cells slots ls I hl hf
  obtain ⟨⟨hx, hb, hml, hown, hts⟩, -⟩ := id X
  unfold fJ2_toArray at hf
  refine lv_aload_n hx hb dJ2_toArray_0 rfl (lv_at hl 0 rfl) ?_
  obtain ⟨v_1, ev_1, hf⟩ := ob hf
  refine g_get X I gfJ2_9 (gR_in ev_1) dJ2_toArray_1 ?_
  refine lv_aload_n hx hb dJ2_toArray_4 rfl (lv_at hl 0 rfl) ?_
  obtain ⟨v_2, ev_2, hf⟩ := ob hf
  refine g_get X I gfJ2_48 (gI_in ev_2) dJ2_toArray_5 ?_
  obtain ⟨a_3, ea_3, hga_3⟩ := ob hf
  have hla_3 := hl
  have Ia_3 := I
  subst ea_3
  have hf := hga_3
  have hl := hla_3
  have I := Ia_3
  obtain ⟨⟨v_4, σ_5⟩, ev_4, hf⟩ := ob hf
  refine cg_S (r := (some (.ref v_4))) (σ' := σ_5) (rs := [.ref v_4]) (rest := []) (As := [.ref a_3, .int v_2]) X I (mJ14_copyOf_2 hX ev_4) lvJ2_66 hdJ2_66 ⟨Nat.le_trans (Nat.le_of_ble_eq_true rfl) hR.1, Nat.le_trans (Nat.le_of_ble_eq_true rfl) hR.2⟩ rfl hl.1 rfl (Nat.le_of_ble_eq_true rfl) rfl dJ2_toArray_8 (fun H locs cells slots I => ?_)
  cases os hf
  exact r_aret X I (Or.inr ⟨_, rfl⟩) (Or.inr ⟨_, rfl⟩) dJ2_toArray_11
theorem mJ2_toArray {E : EV} {l : Launch} {σ : St} {x0 : Nat} {res : (Nat × St)} (hX : XK E) (hf : fJ2_toArray E.2.2.2.1 σ x0 = some res) : CM E l yJ2_toArray (ws_ yJ2_toArray cJ2_toArray 1 (some (.array (.object "java/lang/Object")))) 3 84 [.ref x0] σ (some (.ref res.1)) res.2 := by
  refine CM.of hX.1 (by decide) rfl rfl (Nat.le_of_ble_eq_true rfl) ?_
  intro p e s m below meth c X I ls hl
  exact wJ2_toArray_0 hX ⟨Nat.le_refl _, Nat.le_refl _⟩ X _ _ _ _ _ _ _ I hl hf
/-! java/util/ArrayList.<init>(Ljava/util/Collection;)V imp=True fuel=False kap=True rt=None thr=False -/
theorem lvJ2_42_J2 : GoodIn lw_all (va_wsF RJ2 42 RJ2 ⟨"java/util/Collection", "toArray", "()[Ljava/lang/Object;"⟩ yJ2_toArray (ws_ yJ2_toArray cJ2_toArray 1 (some (.array (.object "java/lang/Object"))))) ∧ (RJ2, ⟨"java/util/Collection", "toArray", "()[Ljava/lang/Object;"⟩, yJ2_toArray) ∈ FWL := ⟨lw_good (List.forall_mem_cons.mpr ⟨q996, List.forall_mem_cons.mpr ⟨q1017, List.forall_mem_cons.mpr ⟨q1019, List.forall_mem_cons.mpr ⟨q118, fun w h => (lw_meth q1021 w h).1⟩⟩⟩⟩), List.mem_of_getElem? (i := 5) rfl⟩
theorem hdJ2_42_J2 : (⟨"java/util/Collection", "toArray", "()[Ljava/lang/Object;"⟩ : MethodName).cls ≠ "java/lang/invoke/MethodHandle" ∧ (⟨"java/util/Collection", "toArray", "()[Ljava/lang/Object;"⟩ : MethodName).cls ≠ "java/lang/invoke/VarHandle" ∧ (parseMethodDescriptor (⟨"java/util/Collection", "toArray", "()[Ljava/lang/Object;"⟩ : MethodName).desc).map (fun d => d.parameters.length) = some 0 := by decide +kernel
theorem lvJ2_57 : GoodIn lw_all (va_wsS RJ2 57 yJ14_copyOf_3 (ws_ yJ14_copyOf_3 cJ14_copyOf_3 4 (some (.array (.object "java/lang/Object"))))) := lw_S q1916 q1064 q133 q1065
theorem hdJ2_57 : yJ14_copyOf_3.cls ≠ "java/lang/invoke/MethodHandle" ∧ yJ14_copyOf_3.cls ≠ "java/lang/invoke/VarHandle" ∧ (parseMethodDescriptor yJ14_copyOf_3.desc).map (fun d => d.parameters.length) = some 3 := by decide +kernel
def fJ2_init_2 (κ : Nat → Nat) (σ : St) (x0 : Nat) (x1 : Nat) : Option St := (fJ1_init σ x0).bind fun σ_2 : St => (isC σ_2 x1 21).bind fun u_3 : Unit => (fJ2_toArray κ σ_2 x1).bind fun (v_4, σ_5) => (aL σ_5 v_4).bind fun v_6 : Int32 => (pV σ_5 x0 [(21, 2)] (.int v_6)).bind fun σ_7 : St => if v_6 = 0 then (pV σ_7 x0 [(21, 1)] (.ref (κ 1))).bind fun σ_8 : St => some σ_8 else (isC σ_7 x1 21).bind fun u_9 : Unit => if (some (κ 11)) = (some (κ 11)) then (pV σ_7 x0 [(21, 1)] (.ref v_4)).bind fun σ_14 : St => some σ_14 else (gI σ_7 x0 [(21, 2)]).bind fun v_10 : Int32 => (fJ14_copyOf_3 κ σ_7 v_4 v_10 (κ 10)).bind fun (v_11, σ_12) => (pV σ_12 x0 [(21, 1)] (.ref v_11)).bind fun σ_13 : St => some σ_13
theorem wJ2_init_2_0 {E : EV} {l : Launch} {p : Program} {e : Env} {s : State} {m : MethodId} {args : Array Value} {below : List Frame} {meth : Method} {c : Code} {R : Room} {res : St} (hX : XK E) (hR : 4 ≤ R.frames ∧ 104 ≤ R.locals) (X : MX E p s m args meth c cJ2_init_2 3 none RJ2 "<init>") : ∀ (x0 : Nat) (x1 : Nat) (σ : St) (H : Heap) (locs : List Loc) (cells slots : Nat) (ls : Array Slot), WI E R s σ H locs cells slots → lv_has ls 3 [(0, .ref x0), (1, .ref x1)] → fJ2_init_2 E.2.2.2.1 σ x0 x1 = some res → W p l e R s m args below meth c H locs cells slots (MQ below (Qd E R.cells R.slots none res) args s R.cells R.slots (fr E)) (F0 m 0 ls []) := by
  intro x0 x1 σ H locs cells slots ls I hl hf
  obtain ⟨⟨hx, hb, hml, hown, hts⟩, -⟩ := id X
  unfold fJ2_init_2 at hf
  refine lv_aload_n hx hb dJ2_init_2_0 rfl (lv_at hl 0 rfl) ?_
  obtain ⟨σ_2, ev_1, hf⟩ := ob hf
  refine cm_I (σ' := σ_2) (rs := []) (rest := []) (As := []) X I (mJ1_init hX ev_1) lvJ2_1 hdJ2_1 ⟨Nat.le_trans (Nat.le_of_ble_eq_true rfl) hR.1, Nat.le_trans (Nat.le_of_ble_eq_true rfl) hR.2⟩ rfl hl.1 rfl (Nat.le_of_ble_eq_true rfl) rfl dJ2_init_2_1 (fun H locs cells slots I => ?_)
  refine lv_aload_n hx hb dJ2_init_2_4 rfl (lv_at hl 1 rfl) ?_
  obtain ⟨u_3, eu_3, hf⟩ := ob hf
  obtain ⟨⟨v_4, σ_5⟩, ev_4, hf⟩ := ob hf
  refine cg_F (vw := (RJ2, TJ2, 3)) (ci := 21) (r := (some (.ref v_4))) (σ' := σ_5) (rs := [.ref v_4]) (rest := []) (As := []) hX X I eu_3 rfl (mJ2_toArray hX ev_4) lvJ2_42_J2 hdJ2_42_J2 ⟨Nat.le_trans (Nat.le_of_ble_eq_true rfl) hR.1, Nat.le_trans (Nat.le_of_ble_eq_true rfl) hR.2⟩ rfl hl.1 rfl (Nat.le_of_ble_eq_true rfl) rfl dJ2_init_2_5 (fun H locs cells slots I => ?_)
  refine lv_astore_n (lv' := [(2, .ref v_4), (0, .ref x0), (1, .ref x1)]) hx hb dJ2_init_2_10 rfl hl (by decide) rfl (fun ls hl => ?_)
  refine lv_aload_n hx hb dJ2_init_2_11 rfl (lv_at hl 1 rfl) ?_
  refine lv_aload_n hx hb dJ2_init_2_12 rfl (lv_at hl 0 rfl) ?_
  obtain ⟨v_6, ev_6, hf⟩ := ob hf
  refine g_alen X I ev_6 dJ2_init_2_13 ?_
  refine lv_dup_x1 hx hb dJ2_init_2_14 rfl rfl ?_
  obtain ⟨σ_7, eσ_7, hf⟩ := ob hf
  refine g_put X I pfJ2_48 rfl rfl eσ_7 dJ2_init_2_15 (fun H locs I => ?_)
  refine lv_if_eq (tgt := 57) hx hb dJ2_init_2_18 (by decide) (fun c_18 => ?_) (fun c_18 => ?_)
  · have hf := ip c_18 hf
    refine lv_aload_n hx hb dJ2_init_2_57 rfl (lv_at hl 1 rfl) ?_
    refine g_gets (ref := "java/util/ArrayList") (w := .ref (E.2.2.2.1 1)) hX X I (List.mem_of_getElem? (i := 2) rfl) rfl q1917 dJ2_init_2_58 ?_
    obtain ⟨σ_8, eσ_8, hf⟩ := ob hf
    refine g_put X I pfJ2_9 rfl rfl eσ_8 dJ2_init_2_61 (fun H locs I => ?_)
    cases os hf
    exact r_vret X I dJ2_init_2_64
  · have hf := im c_18 hf
    refine lv_aload_n hx hb dJ2_init_2_21 rfl (lv_at hl 2 rfl) ?_
    obtain ⟨u_9, eu_9, hf⟩ := ob hf
    refine g_getCI hX X I q1908 eu_9 hl.1 ⟨Nat.le_trans (Nat.le_of_ble_eq_true rfl) hR.1, Nat.le_trans (Nat.le_of_ble_eq_true rfl) hR.2⟩ (Nat.le_of_ble_eq_true rfl) dJ2_init_2_22 ?_
    refine g_ldcM (k := 11) hX X q1914 (List.mem_of_getElem? (i := 1) rfl) dJ2_init_2_27 ?_
    refine lv_acmp_ne (rx := (some (E.2.2.2.1 11))) (ry := (some (E.2.2.2.1 11))) (tgt := 40) hx hb dJ2_init_2_29 (by decide) (fun c_29 => ?_) (fun c_29 => ?_)
    · have hf := im c_29 hf
      refine lv_aload_n hx hb dJ2_init_2_40 rfl (lv_at hl 1 rfl) ?_
      refine lv_aload_n hx hb dJ2_init_2_41 rfl (lv_at hl 0 rfl) ?_
      refine lv_aload_n hx hb dJ2_init_2_42 rfl (lv_at hl 1 rfl) ?_
      obtain ⟨v_10, ev_10, hf⟩ := ob hf
      refine g_get X I gfJ2_48 (gI_in ev_10) dJ2_init_2_43 ?_
      refine g_ldcM (k := 10) hX X q1915 (List.mem_of_getElem? (i := 0) rfl) dJ2_init_2_46 ?_
      obtain ⟨⟨v_11, σ_12⟩, ev_11, hf⟩ := ob hf
      refine cg_S (r := (some (.ref v_11))) (σ' := σ_12) (rs := [.ref v_11, .ref x0]) (rest := [.ref x0]) (As := [.ref v_4, .int v_10, .ref (E.2.2.2.1 10)]) X I (mJ14_copyOf_3 hX ev_11) lvJ2_57 hdJ2_57 ⟨Nat.le_trans (Nat.le_of_ble_eq_true rfl) hR.1, Nat.le_trans (Nat.le_of_ble_eq_true rfl) hR.2⟩ rfl hl.1 rfl (Nat.le_of_ble_eq_true rfl) rfl dJ2_init_2_48 (fun H locs cells slots I => ?_)
      obtain ⟨σ_13, eσ_13, hf⟩ := ob hf
      refine g_put X I pfJ2_9 rfl rfl eσ_13 dJ2_init_2_51 (fun H locs I => ?_)
      refine lv_goto (tgt := 64) hx hb dJ2_init_2_54 (by decide) ?_
      cases os hf
      exact r_vret X I dJ2_init_2_64
    · have hf := ip c_29 hf
      refine lv_aload_n hx hb dJ2_init_2_32 rfl (lv_at hl 1 rfl) ?_
      refine lv_aload_n hx hb dJ2_init_2_33 rfl (lv_at hl 0 rfl) ?_
      obtain ⟨σ_14, eσ_14, hf⟩ := ob hf
      refine g_put X I pfJ2_9 rfl rfl eσ_14 dJ2_init_2_34 (fun H locs I => ?_)
      refine lv_goto (tgt := 64) hx hb dJ2_init_2_37 (by decide) ?_
      cases os hf
      exact r_vret X I dJ2_init_2_64
theorem mJ2_init_2 {E : EV} {l : Launch} {σ : St} {x0 : Nat} {x1 : Nat} {res : St} (hX : XK E) (hf : fJ2_init_2 E.2.2.2.1 σ x0 x1 = some res) : CM E l yJ2_init_2 (ws_ yJ2_init_2 cJ2_init_2 3 none) 4 104 [.ref x0, .ref x1] σ none res := by
  refine CM.of hX.1 (by decide) rfl rfl (Nat.le_of_ble_eq_true rfl) ?_
  intro p e s m below meth c X I ls hl
  exact wJ2_init_2_0 hX ⟨Nat.le_refl _, Nat.le_refl _⟩ X _ _ _ _ _ _ _ _ I hl hf
/-! java/lang/Number.<init>()V imp=False fuel=False kap=False rt=None thr=False -/
def fJ17_init (σ : St) (x0 : Nat) : Option Unit := some ()
theorem wJ17_init_0 {E : EV} {l : Launch} {p : Program} {e : Env} {s : State} {m : MethodId} {args : Array Value} {below : List Frame} {meth : Method} {c : Code} {R : Room} {σ : St} {res : Unit} (hX : XK E) (hR : 1 ≤ R.frames ∧ 20 ≤ R.locals) (X : MX E p s m args meth c cJ17_init 1 none RJ17 "<init>") : ∀ (x0 : Nat) (H : Heap) (locs : List Loc) (cells slots : Nat) (ls : Array Slot), WI E R s σ H locs cells slots → lv_has ls 1 [(0, .ref x0)] → fJ17_init σ x0 = some res → W p l e R s m args below meth c H locs cells slots (MQ below (Qd E R.cells R.slots none σ) args s R.cells R.slots (fr E)) (F0 m 0 ls []) := by
  intro x0 H locs cells slots ls I hl hf
  obtain ⟨⟨hx, hb, hml, hown, hts⟩, -⟩ := id X
  unfold fJ17_init at hf
  refine lv_aload_n hx hb dJ17_init_0 rfl (lv_at hl 0 rfl) ?_
  refine g_objInit X ⟨Nat.le_trans (Nat.le_of_ble_eq_true rfl) hR.1, Nat.le_trans (Nat.le_of_ble_eq_true rfl) hR.2⟩ q1935 hl.1 (Nat.le_of_ble_eq_true rfl) dJ17_init_1 ?_
  cases os hf
  exact r_vret X I dJ17_init_4
theorem mJ17_init {E : EV} {l : Launch} {σ : St} {x0 : Nat} {res : Unit} (hX : XK E) (hf : fJ17_init σ x0 = some res) : CM E l yJ17_init (ws_ yJ17_init cJ17_init 1 none) 1 20 [.ref x0] σ none σ := by
  refine CM.of hX.1 (by decide) rfl rfl (Nat.le_of_ble_eq_true rfl) ?_
  intro p e s m below meth c X I ls hl
  exact wJ17_init_0 hX ⟨Nat.le_refl _, Nat.le_refl _⟩ X _ _ _ _ _ _ I hl hf
/-! java/lang/Integer.<init>(I)V imp=True fuel=False kap=False rt=None thr=False -/
theorem lvJ18_202 : GoodIn lw_all (ws_ yJ17_init cJ17_init 1 none) ∧ Cond.initialized yJ17_init.cls ∈ lw_all ∧ Cond.methodLink RJ18 202 yJ17_init ∈ lw_all ∧ Cond.instanceMethod yJ17_init ∈ lw_all ∧ yJ17_init.name = "<init>" := ⟨lw_meth q1934, q137, q1932, q1933, rfl⟩
theorem hdJ18_202 : yJ17_init.cls ≠ "java/lang/invoke/MethodHandle" ∧ yJ17_init.cls ≠ "java/lang/invoke/VarHandle" ∧ (parseMethodDescriptor yJ17_init.desc).map (fun d => d.parameters.length) = some 0 := by decide +kernel
theorem pfJ18_205 : ∀ q ∈ ([(27, 0)] : List (Nat × Nat)), PI RJ18 205 .int q := List.forall_mem_cons.mpr ⟨⟨RJ18, TJ18, 1, tyJ18, rfl, in_J18, by decide, q1936, rfl, tyJ18_ok, nmJ18, rfl, rfl⟩, fun _ h => by cases h⟩
def fJ18_init (σ : St) (x0 : Nat) (x1 : Int32) : Option St := (fJ17_init σ x0).bind fun v_1 : Unit => (pV σ x0 [(27, 0)] (.int x1)).bind fun σ_3 : St => some σ_3
theorem wJ18_init_0 {E : EV} {l : Launch} {p : Program} {e : Env} {s : State} {m : MethodId} {args : Array Value} {below : List Frame} {meth : Method} {c : Code} {R : Room} {res : St} (hX : XK E) (hR : 2 ≤ R.frames ∧ 40 ≤ R.locals) (X : MX E p s m args meth c cJ18_init 2 none RJ18 "<init>") : ∀ (x0 : Nat) (x1 : Int32) (σ : St) (H : Heap) (locs : List Loc) (cells slots : Nat) (ls : Array Slot), WI E R s σ H locs cells slots → lv_has ls 2 [(0, .ref x0), (1, .int x1)] → fJ18_init σ x0 x1 = some res → W p l e R s m args below meth c H locs cells slots (MQ below (Qd E R.cells R.slots none res) args s R.cells R.slots (fr E)) (F0 m 0 ls []) := by
  intro x0 x1 σ H locs cells slots ls I hl hf
  obtain ⟨⟨hx, hb, hml, hown, hts⟩, -⟩ := id X
  unfold fJ18_init at hf
  refine lv_aload_n hx hb dJ18_init_0 rfl (lv_at hl 0 rfl) ?_
  obtain ⟨v_1, ev_1, hf⟩ := ob hf
  refine cm_I (σ' := σ) (rs := []) (rest := []) (As := []) X I (mJ17_init hX ev_1) lvJ18_202 hdJ18_202 ⟨Nat.le_trans (Nat.le_of_ble_eq_true rfl) hR.1, Nat.le_trans (Nat.le_of_ble_eq_true rfl) hR.2⟩ rfl hl.1 rfl (Nat.le_of_ble_eq_true rfl) rfl dJ18_init_1 (fun H locs cells slots I => ?_)
  refine lv_aload_n hx hb dJ18_init_4 rfl (lv_at hl 0 rfl) ?_
  refine lv_iload_n hx hb dJ18_init_5 rfl (lv_at hl 1 rfl) ?_
  obtain ⟨σ_3, eσ_3, hf⟩ := ob hf
  refine g_putI X I pfJ18_205 rfl rfl eσ_3 dJ18_init_6 (fun H locs I => ?_)
  cases os hf
  exact r_vret X I dJ18_init_9
theorem mJ18_init {E : EV} {l : Launch} {σ : St} {x0 : Nat} {x1 : Int32} {res : St} (hX : XK E) (hf : fJ18_init σ x0 x1 = some res) : CM E l yJ18_init (ws_ yJ18_init cJ18_init 2 none) 2 40 [.ref x0, .int x1] σ none res := by
  refine CM.of hX.1 (by decide) rfl rfl (Nat.le_of_ble_eq_true rfl) ?_
  intro p e s m below meth c X I ls hl
  exact wJ18_init_0 hX ⟨Nat.le_refl _, Nat.le_refl _⟩ X _ _ _ _ _ _ _ _ I hl hf
/-! java/lang/Integer.valueOf(I)Ljava/lang/Integer; imp=True fuel=False kap=True rt=O thr=False -/
theorem noJ18_1 : NO RJ18 1 27 1 [.int 0] := ⟨RJ18, TJ18, tyJ18, rfl, in_J18, tyJ18_ok, by decide, q1927, q1928, q138⟩
theorem lvJ18_199 : GoodIn lw_all (ws_ yJ18_init cJ18_init 2 none) ∧ Cond.initialized yJ18_init.cls ∈ lw_all ∧ Cond.methodLink RJ18 199 yJ18_init ∈ lw_all ∧ Cond.instanceMethod yJ18_init ∈ lw_all ∧ yJ18_init.name = "<init>" := ⟨lw_meth q1931, q138, q1929, q1930, rfl⟩
theorem hdJ18_199 : yJ18_init.cls ≠ "java/lang/invoke/MethodHandle" ∧ yJ18_init.cls ≠ "java/lang/invoke/VarHandle" ∧ (parseMethodDescriptor yJ18_init.desc).map (fun d => d.parameters.length) = some 1 := by decide +kernel
def fJ18_valueOf_23 (κ : Nat → Nat) (x0 : Int32) (σ : St) : Option ((Option Nat) × St) := (nH σ 1 (.inr (27, [.int 0]))).bind fun (q_1a, q_1s) => (fJ18_init q_1s q_1a x0).bind fun σ_3 : St => some (((some q_1a)), σ_3)
def fJ18_valueOf (κ : Nat → Nat) (σ : St) (x0 : Int32) : Option ((Option Nat) × St) := if x0 < (-128 : Int32) then fJ18_valueOf_23 κ x0 σ else if (127 : Int32) < x0 then fJ18_valueOf_23 κ x0 σ else (aR σ (κ 2) 6 (x0 + (128 : Int32))).bind fun v_4 : Option Nat => some ((v_4), σ)
theorem wJ18_valueOf_23 {E : EV} {l : Launch} {p : Program} {e : Env} {s : State} {m : MethodId} {args : Array Value} {below : List Frame} {meth : Method} {c : Code} {R : Room} {res : ((Option Nat) × St)} (hX : XK E) (hR : 3 ≤ R.frames ∧ 61 ≤ R.locals) (X : MX E p s m args meth c cJ18_valueOf 1 (some (.object "java/lang/Integer")) RJ18 "valueOf") : ∀ (x0 : Int32) (σ : St) (H : Heap) (locs : List Loc) (cells slots : Nat) (ls : Array Slot), WI E R s σ H locs cells slots → lv_has ls 1 [(0, .int x0)] → fJ18_valueOf_23 E.2.2.2.1 x0 σ = some res → W p l e R s m args below meth c H locs cells slots (MQ below (Qd E R.cells R.slots (some (va_rf res.1)) res.2) args s R.cells R.slots (fr E)) (F0 m 23 ls []) := by
  intro x0 σ H locs cells slots ls I hl hf
  obtain ⟨⟨hx, hb, hml, hown, hts⟩, -⟩ := id X
  unfold fJ18_valueOf_23 at hf
  obtain ⟨⟨q_1a, q_1s⟩, eq_1, hf⟩ := ob hf
  refine g_new X I noJ18_1 eq_1 dJ18_valueOf_23 (fun H locs cells slots I => ?_)
  refine lv_dup hx hb dJ18_valueOf_26 rfl ?_
  refine lv_iload_n hx hb dJ18_valueOf_27 rfl (lv_at hl 0 rfl) ?_
  obtain ⟨σ_3, ev_2, hf⟩ := ob hf
  refine cm_I (σ' := σ_3) (rs := [.ref q_1a]) (rest := [.ref q_1a]) (As := [.int x0]) X I (mJ18_init hX ev_2) lvJ18_199 hdJ18_199 ⟨Nat.le_trans (Nat.le_of_ble_eq_true rfl) hR.1, Nat.le_trans (Nat.le_of_ble_eq_true rfl) hR.2⟩ rfl hl.1 rfl (Nat.le_of_ble_eq_true rfl) rfl dJ18_valueOf_28 (fun H locs cells slots I => ?_)
  cases os hf
  exact r_aret X I (Or.inl ⟨_, rfl⟩) (rf_or _) dJ18_valueOf_31
theorem wJ18_valueOf_0 {E : EV} {l : Launch} {p : Program} {e : Env} {s : State} {m : MethodId} {args : Array Value} {below : List Frame} {meth : Method} {c : Code} {R : Room} {res : ((Option Nat) × St)} (hX : XK E) (hR : 3 ≤ R.frames ∧ 61 ≤ R.locals) (X : MX E p s m args meth c cJ18_valueOf 1 (some (.object "java/lang/Integer")) RJ18 "valueOf") : ∀ (x0 : Int32) (σ : St) (H : Heap) (locs : List Loc) (cells slots : Nat) (ls : Array Slot), WI E R s σ H locs cells slots → lv_has ls 1 [(0, .int x0)] → fJ18_valueOf E.2.2.2.1 σ x0 = some res → W p l e R s m args below meth c H locs cells slots (MQ below (Qd E R.cells R.slots (some (va_rf res.1)) res.2) args s R.cells R.slots (fr E)) (F0 m 0 ls []) := by
  intro x0 σ H locs cells slots ls I hl hf
  obtain ⟨⟨hx, hb, hml, hown, hts⟩, -⟩ := id X
  unfold fJ18_valueOf at hf
  refine lv_iload_n hx hb dJ18_valueOf_0 rfl (lv_at hl 0 rfl) ?_
  refine lv_bipush (v := (-128)) hx hb dJ18_valueOf_1 (by decide) ?_
  refine lv_icmp_lt (tgt := 23) hx hb dJ18_valueOf_3 (by decide) (fun c_3 => ?_) (fun c_3 => ?_)
  · have hf := ip c_3 hf
    exact wJ18_valueOf_23 hX hR X x0 σ _ _ _ _ _ I (lv_sub hl [0] rfl) hf
  · have hf := im c_3 hf
    refine lv_iload_n hx hb dJ18_valueOf_6 rfl (lv_at hl 0 rfl) ?_
    refine g_gets (ref := "java/lang/Integer$IntegerCache") (w := .int (127 : Int32)) hX X I (List.mem_of_getElem? (i := 4) rfl) rfl q1923 dJ18_valueOf_7 ?_
    refine lv_icmp_gt (tgt := 23) hx hb dJ18_valueOf_10 (by decide) (fun c_10 => ?_) (fun c_10 => ?_)
    · have hf := ip c_10 hf
      exact wJ18_valueOf_23 hX hR X x0 σ _ _ _ _ _ I (lv_sub hl [0] rfl) hf
    · have hf := im c_10 hf
      refine g_gets (ref := "java/lang/Integer$IntegerCache") (w := .ref (E.2.2.2.1 2)) hX X I (List.mem_of_getElem? (i := 3) rfl) rfl q1925 dJ18_valueOf_13 ?_
      refine lv_iload_n hx hb dJ18_valueOf_16 rfl (lv_at hl 0 rfl) ?_
      refine lv_sipush (v := 128) hx hb dJ18_valueOf_17 (by decide) ?_
      refine lv_iadd hx hb dJ18_valueOf_20 ?_
      obtain ⟨v_4, ev_4, hf⟩ := ob hf
      refine g_aald X I (by decide) rfl ev_4 dJ18_valueOf_21 ?_
      cases os hf
      exact r_aret X I (Or.inl ⟨_, rfl⟩) (rf_or _) dJ18_valueOf_22
theorem mJ18_valueOf {E : EV} {l : Launch} {σ : St} {x0 : Int32} {res : ((Option Nat) × St)} (hX : XK E) (hf : fJ18_valueOf E.2.2.2.1 σ x0 = some res) : CM E l yJ18_valueOf (ws_ yJ18_valueOf cJ18_valueOf 1 (some (.object "java/lang/Integer"))) 3 61 [.int x0] σ (some (va_rf res.1)) res.2 := by
  refine CM.of hX.1 (by decide) rfl rfl (Nat.le_of_ble_eq_true rfl) ?_
  intro p e s m below meth c X I ls hl
  exact wJ18_valueOf_0 hX ⟨Nat.le_refl _, Nat.le_refl _⟩ X _ _ _ _ _ _ _ I hl hf
/-! java/lang/Integer.equals(Ljava/lang/Object;)Z imp=False fuel=False kap=False rt=I thr=False -/
theorem lvJ18_211 : GoodIn lw_all (wsV RJ18 211 RJ18 yJ18_intValue (ws_ yJ18_intValue cJ18_intValue 1 (some .int))) := lw_V q1984 q1610 q1611 q138 q1612
theorem hdJ18_211 : yJ18_intValue.cls = RJ18 ∧ yJ18_intValue.cls ≠ "java/lang/invoke/MethodHandle" ∧ yJ18_intValue.cls ≠ "java/lang/invoke/VarHandle" ∧ (parseMethodDescriptor yJ18_intValue.desc).map (fun d => d.parameters.length) = some 0 := by decide +kernel
def fJ18_equals (σ : St) (x0 : Nat) (x1 : Nat) : Option Int32 := (isC σ x1 27).bind fun u_1 : Unit => if (1 : Int32) = 0 then some (0 : Int32) else (gI σ x0 [(27, 0)]).bind fun v_2 : Int32 => (isC σ x1 27).bind fun u_3 : Unit => (isC σ x1 27).bind fun u_4 : Unit => (fJ18_intValue σ x1).bind fun v_5 : Int32 => if v_2 = v_5 then some (1 : Int32) else some (0 : Int32)
theorem wJ18_equals_0 {E : EV} {l : Launch} {p : Program} {e : Env} {s : State} {m : MethodId} {args : Array Value} {below : List Frame} {meth : Method} {c : Code} {R : Room} {σ : St} {res : Int32} (hX : XK E) (hR : 1 ≤ R.frames ∧ 20 ≤ R.locals) (X : MX E p s m args meth c cJ18_equals 2 (some .boolean) RJ18 "equals") : ∀ (x0 : Nat) (x1 : Nat) (H : Heap) (locs : List Loc) (cells slots : Nat) (ls : Array Slot), WI E R s σ H locs cells slots → lv_has ls 2 [(0, .ref x0), (1, .ref x1)] → fJ18_equals σ x0 x1 = some res → W p l e R s m args below meth c H locs cells slots (MQ below (Qd E R.cells R.slots (some (.int res)) σ) args s R.cells R.slots (fr E)) (F0 m 0 ls []) := by
  intro x0 x1 H locs cells slots ls I hl hf
  obtain ⟨⟨hx, hb, hml, hown, hts⟩, -⟩ := id X
  unfold fJ18_equals at hf
  refine lv_aload_n hx hb dJ18_equals_0 rfl (lv_at hl 1 rfl) ?_
  obtain ⟨u_1, eu_1, hf⟩ := ob hf
  refine g_inst (vw := (RJ18, TJ18, 1)) X I rfl q1927 eu_1 dJ18_equals_1 ?_
  refine lv_if_eq (tgt := 27) hx hb dJ18_equals_4 (by decide) (fun c_4 => ?_) (fun c_4 => ?_)
  · have hf := ip c_4 hf
    refine lv_iconst (v := 0) hx hb dJ18_equals_27 (by decide) ?_
    cases os hf
    exact r_zret X I (Or.inl rfl) dJ18_equals_28
  · have hf := im c_4 hf
    refine lv_aload_n hx hb dJ18_equals_7 rfl (lv_at hl 0 rfl) ?_
    obtain ⟨v_2, ev_2, hf⟩ := ob hf
    refine g_get X I gfJ18_205 (gI_in ev_2) dJ18_equals_8 ?_
    refine lv_aload_n hx hb dJ18_equals_11 rfl (lv_at hl 1 rfl) ?_
    obtain ⟨u_3, eu_3, hf⟩ := ob hf
    refine g_cast (vw := (RJ18, TJ18, 1)) X I rfl q1927 eu_3 dJ18_equals_12 ?_
    obtain ⟨u_4, eu_4, hf⟩ := ob hf
    obtain ⟨v_5, ev_5, hf⟩ := ob hf
    refine cg_V (vw := (RJ18, TJ18, 1)) (ci := 27) (r := (some (.int v_5))) (σ' := σ) (rs := [.int v_5, .int v_2]) (rest := [.int v_2]) (As := []) X I eu_4 rfl (mJ18_intValue hX ev_5) lvJ18_211 hdJ18_211 ⟨Nat.le_trans (Nat.le_of_ble_eq_true rfl) hR.1, Nat.le_trans (Nat.le_of_ble_eq_true rfl) hR.2⟩ rfl hl.1 rfl (Nat.le_of_ble_eq_true rfl) rfl dJ18_equals_15 (fun H locs cells slots I => ?_)
    refine lv_icmp_ne (tgt := 25) hx hb dJ18_equals_18 (by decide) (fun c_18 => ?_) (fun c_18 => ?_)
    · have hf := im c_18 hf
      refine lv_iconst (v := 0) hx hb dJ18_equals_25 (by decide) ?_
      cases os hf
      exact r_zret X I (Or.inl rfl) dJ18_equals_26
    · have hf := ip c_18 hf
      refine lv_iconst (v := 1) hx hb dJ18_equals_21 (by decide) ?_
      refine lv_goto (tgt := 26) hx hb dJ18_equals_22 (by decide) ?_
      cases os hf
      exact r_zret X I (Or.inr rfl) dJ18_equals_26
theorem mJ18_equals {E : EV} {l : Launch} {σ : St} {x0 : Nat} {x1 : Nat} {res : Int32} (hX : XK E) (hf : fJ18_equals σ x0 x1 = some res) : CM E l yJ18_equals (ws_ yJ18_equals cJ18_equals 2 (some .boolean)) 1 20 [.ref x0, .ref x1] σ (some (.int res)) σ := by
  refine CM.of hX.1 (by decide) rfl rfl (Nat.le_of_ble_eq_true rfl) ?_
  intro p e s m below meth c X I ls hl
  exact wJ18_equals_0 hX ⟨Nat.le_refl _, Nat.le_refl _⟩ X _ _ _ _ _ _ _ I hl hf
/-! java/util/ArrayList.indexOfRange(Ljava/lang/Object;II)I imp=False fuel=True kap=False rt=I thr=False -/
theorem lvJ2_93 : GoodIn lw_all (va_wsO RJ2 93 RJ18 RJ27 yJ27_equals yJ18_equals (ws_ yJ18_equals cJ18_equals 2 (some .boolean))) ∧ Cond.code ⟨RJ27, yJ27_equals.name, yJ27_equals.desc⟩ cJ27_equals 2 (some .boolean) ∈ lw_all := ⟨lw_good (List.forall_mem_cons.mpr ⟨q1954, List.forall_mem_cons.mpr ⟨q1956, List.forall_mem_cons.mpr ⟨q1955, List.forall_mem_cons.mpr ⟨q1981, List.forall_mem_cons.mpr ⟨q1982, List.forall_mem_cons.mpr ⟨q138, fun w h => (lw_meth q1983 w h).1⟩⟩⟩⟩⟩⟩), q1988⟩
theorem hdJ2_93 : RJ27 ≠ "java/lang/invoke/MethodHandle" ∧ RJ27 ≠ "java/lang/invoke/VarHandle" ∧ (parseMethodDescriptor yJ27_equals.desc).map (fun d => d.parameters.length) = some 1 := by decide +kernel
def fJ2_indexOfRange_42 (N : Nat) (σ : St) : Nat → Nat → Int32 → Option Nat → Int32 → Option Int32
  | 0, _, _, _, _ => none
  | n + 1, x1, x3, x4, x5 => if x3 ≤ x5 then some (-1 : Int32) else (x4).bind fun a_1 : Nat => (aR σ a_1 3 x5).bind fun v_2 : Option Nat => (v_2).bind fun a_3 : Nat => (isC σ x1 27).bind fun u_4 : Unit => (fJ18_equals σ x1 a_3).bind fun v_5 : Int32 => if v_5 = 0 then lt (x5 + 1) fun x5_7 : Int32 => fJ2_indexOfRange_42 N σ n x1 x3 (some a_1) x5_7 else some x5
def fJ2_indexOfRange_13 (N : Nat) (σ : St) : Nat → Int32 → Option Nat → Int32 → Option Int32
  | 0, _, _, _ => none
  | n + 1, x3, x4, x5 => if x3 ≤ x5 then some (-1 : Int32) else (x4).bind fun a_8 : Nat => (aR σ a_8 3 x5).bind fun v_9 : Option Nat => oc v_9 (some x5) fun a_10 => lt (x5 + 1) fun x5_11 : Int32 => fJ2_indexOfRange_13 N σ n x3 (some a_8) x5_11
def fJ2_indexOfRange (N : Nat) (σ : St) (x0 : Nat) (x1 : Nat) (x2 : Int32) (x3 : Int32) : Option Int32 := (gR σ x0 [(21, 1)]).bind fun v_12 : Option Nat => fJ2_indexOfRange_42 N σ N x1 x3 v_12 x2
theorem wJ2_indexOfRange_42 {E : EV} {l : Launch} {p : Program} {e : Env} {s : State} {m : MethodId} {args : Array Value} {below : List Frame} {meth : Method} {c : Code} {R : Room} {σ : St} {res : Int32} (hX : XK E) (hR : 2 ≤ R.frames ∧ 41 ≤ R.locals) (X : MX E p s m args meth c cJ2_indexOfRange 6 (some .int) RJ2 "indexOfRange") (N : Nat) : ∀ (n : Nat) (x1 : Nat) (x3 : Int32) (x4 : Option Nat) (x5 : Int32) (H : Heap) (locs : List Loc) (cells slots : Nat) (ls : Array Slot), WI E R s σ H locs cells slots → lv_has ls 6 [(1, .ref x1), (3, .int x3), (4, va_rf x4), (5, .int x5)] → fJ2_indexOfRange_42 N σ n x1 x3 x4 x5 = some res → W p l e R s m args below meth c H locs cells slots (MQ below (Qd E R.cells R.slots (some (.int res)) σ) args s R.cells R.slots (fr E)) (F0 m 42 ls []) := by
  intro n
  induction n with
  | zero => intro x1 x3 x4 x5 H locs cells slots ls I hl hf; exact nomatch (show none = some res from hf)
  | succ n ih =>
    intro x1 x3 x4 x5 H locs cells slots ls I hl hf
    obtain ⟨⟨hx, hb, hml, hown, hts⟩, -⟩ := id X
    rw [fJ2_indexOfRange_42.eq_2] at hf
    refine lv_iload hx hb dJ2_indexOfRange_42 (lv_at hl 3 rfl) ?_
    refine lv_iload_n hx hb dJ2_indexOfRange_44 rfl (lv_at hl 1 rfl) ?_
    refine lv_icmp_ge (tgt := 69) hx hb dJ2_indexOfRange_45 (by decide) (fun c_45 => ?_) (fun c_45 => ?_)
    · have hf := ip c_45 hf
      refine lv_iconst (v := (-1)) hx hb dJ2_indexOfRange_69 (by decide) ?_
      cases os hf
      exact r_iret X I dJ2_indexOfRange_70
    · have hf := im c_45 hf
      refine lv_aload_n hx hb dJ2_indexOfRange_48 rfl (lv_at hl 0 rfl) ?_
      refine lo_aload (x := x4) hx hb dJ2_indexOfRange_49 (lv_at hl 2 rfl) ?_
      refine lv_iload hx hb dJ2_indexOfRange_51 (lv_at hl 3 rfl) ?_
      obtain ⟨a_1, ea_1, hga_1⟩ := ob hf
      have hla_1 := hl
      have Ia_1 := I
      subst ea_1
      have hf := hga_1
      have hl := hla_1
      have I := Ia_1
      obtain ⟨v_2, ev_2, hf⟩ := ob hf
      refine g_aald X I (by decide) rfl ev_2 dJ2_indexOfRange_53 ?_
      obtain ⟨a_3, ea_3, hga_3⟩ := ob hf
      have hla_3 := hl
      have Ia_3 := I
      subst ea_3
      have hf := hga_3
      have hl := hla_3
      have I := Ia_3
      obtain ⟨u_4, eu_4, hf⟩ := ob hf
      obtain ⟨v_5, ev_5, hf⟩ := ob hf
      refine cg_O (vw := (RJ18, TJ18, 1)) (ci := 27) (r := (some (.int v_5))) (σ' := σ) (rs := [.int v_5]) (rest := []) (As := [.ref a_3]) X I eu_4 rfl (mJ18_equals hX ev_5) lvJ2_93 hdJ2_93 ⟨Nat.le_trans (Nat.le_of_ble_eq_true rfl) hR.1, Nat.le_trans (Nat.le_of_ble_eq_true rfl) hR.2⟩ rfl hl.1 rfl (Nat.le_of_ble_eq_true rfl) rfl dJ2_indexOfRange_54 (fun H locs cells slots I => ?_)
      refine lv_if_eq (tgt := 63) hx hb dJ2_indexOfRange_57 (by decide) (fun c_57 => ?_) (fun c_57 => ?_)
      · have hf := ip c_57 hf
        obtain ⟨x5_7, ex5_7, hf⟩ := ol hf
        refine lv_iinc (v := x5_7) (lv' := [(5, .int x5_7), (1, .ref x1), (3, .int x3), (4, .ref a_1)]) hx hb dJ2_indexOfRange_63 hl (k := 3) rfl ex5_7 (by decide) rfl (fun ls hl => ?_)
        refine lv_goto (tgt := 42) hx hb dJ2_indexOfRange_66 (by decide) ?_
        exact ih x1 x3 (some a_1) x5_7 _ _ _ _ _ I (lv_sub hl [1, 2, 3, 0] rfl) hf
      · have hf := im c_57 hf
        refine lv_iload hx hb dJ2_indexOfRange_60 (lv_at hl 3 rfl) ?_
        cases os hf
        exact r_iret X I dJ2_indexOfRange_62
theorem wJ2_indexOfRange_13 {E : EV} {l : Launch} {p : Program} {e : Env} {s : State} {m : MethodId} {args : Array Value} {below : List Frame} {meth : Method} {c : Code} {R : Room} {σ : St} {res : Int32} (hX : XK E) (hR : 2 ≤ R.frames ∧ 41 ≤ R.locals) (X : MX E p s m args meth c cJ2_indexOfRange 6 (some .int) RJ2 "indexOfRange") (N : Nat) : ∀ (n : Nat) (x3 : Int32) (x4 : Option Nat) (x5 : Int32) (H : Heap) (locs : List Loc) (cells slots : Nat) (ls : Array Slot), WI E R s σ H locs cells slots → lv_has ls 6 [(3, .int x3), (4, va_rf x4), (5, .int x5)] → fJ2_indexOfRange_13 N σ n x3 x4 x5 = some res → W p l e R s m args below meth c H locs cells slots (MQ below (Qd E R.cells R.slots (some (.int res)) σ) args s R.cells R.slots (fr E)) (F0 m 13 ls []) := by
  intro n
  induction n with
  | zero => intro x3 x4 x5 H locs cells slots ls I hl hf; exact nomatch (show none = some res from hf)
  | succ n ih =>
    intro x3 x4 x5 H locs cells slots ls I hl hf
    obtain ⟨⟨hx, hb, hml, hown, hts⟩, -⟩ := id X
    rw [fJ2_indexOfRange_13.eq_2] at hf
    refine lv_iload hx hb dJ2_indexOfRange_13 (lv_at hl 2 rfl) ?_
    refine lv_iload_n hx hb dJ2_indexOfRange_15 rfl (lv_at hl 0 rfl) ?_
    refine lv_icmp_ge (tgt := 36) hx hb dJ2_indexOfRange_16 (by decide) (fun c_16 => ?_) (fun c_16 => ?_)
    · have hf := ip c_16 hf
      refine lv_goto (tgt := 69) hx hb dJ2_indexOfRange_36 (by decide) ?_
      refine lv_iconst (v := (-1)) hx hb dJ2_indexOfRange_69 (by decide) ?_
      cases os hf
      exact r_iret X I dJ2_indexOfRange_70
    · have hf := im c_16 hf
      refine lo_aload (x := x4) hx hb dJ2_indexOfRange_19 (lv_at hl 1 rfl) ?_
      refine lv_iload hx hb dJ2_indexOfRange_21 (lv_at hl 2 rfl) ?_
      obtain ⟨a_8, ea_8, hga_8⟩ := ob hf
      have hla_8 := hl
      have Ia_8 := I
      subst ea_8
      have hf := hga_8
      have hl := hla_8
      have I := Ia_8
      obtain ⟨v_9, ev_9, hf⟩ := ob hf
      refine g_aald X I (by decide) rfl ev_9 dJ2_indexOfRange_23 ?_
      have hga_10 := hf
      have hla_10 := hl
      have Ia_10 := I
      rcases v_9 with _ | a_10
      · have hf := oc_n hga_10
        have hl := hla_10
        have I := Ia_10
        refine lv_ifnonnullN hx hb dJ2_indexOfRange_24 ?_
        refine lv_iload hx hb dJ2_indexOfRange_27 (lv_at hl 2 rfl) ?_
        cases os hf
        exact r_iret X I dJ2_indexOfRange_29
      · have hf := oc_s hga_10
        have hl := hla_10
        have I := Ia_10
        refine lv_ifnonnull (tgt := 30) hx hb dJ2_indexOfRange_24 (by decide) ?_
        obtain ⟨x5_11, ex5_11, hf⟩ := ol hf
        refine lv_iinc (v := x5_11) (lv' := [(5, .int x5_11), (3, .int x3), (4, .ref a_8)]) hx hb dJ2_indexOfRange_30 hl (k := 2) rfl ex5_11 (by decide) rfl (fun ls hl => ?_)
        refine lv_goto (tgt := 13) hx hb dJ2_indexOfRange_33 (by decide) ?_
        exact ih x3 (some a_8) x5_11 _ _ _ _ _ I (lv_sub hl [1, 2, 0] rfl) hf
theorem wJ2_indexOfRange_0 {E : EV} {l : Launch} {p : Program} {e : Env} {s : State} {m : MethodId} {args : Array Value} {below : List Frame} {meth : Method} {c : Code} {R : Room} {σ : St} {res : Int32} (hX : XK E) (hR : 2 ≤ R.frames ∧ 41 ≤ R.locals) (X : MX E p s m args meth c cJ2_indexOfRange 6 (some .int) RJ2 "indexOfRange") (N : Nat) : ∀ (x0 : Nat) (x1 : Nat) (x2 : Int32) (x3 : Int32) (H : Heap) (locs : List Loc) (cells slots : Nat) (ls : Array Slot), WI E R s σ H locs cells slots → lv_has ls 6 [(0, .ref x0), (1, .ref x1), (2, .int x2), (3, .int x3)] → fJ2_indexOfRange N σ x0 x1 x2 x3 = some res → W p l e R s m args below meth c H locs cells slots (MQ below (Qd E R.cells R.slots (some (.int res)) σ) args s R.cells R.slots (fr E)) (F0 m 0 ls []) := by
  intro x0 x1 x2 x3 H locs cells slots ls I hl hf
  obtain ⟨⟨hx, hb, hml, hown, hts⟩, -⟩ := id X
  unfold fJ2_indexOfRange at hf
  refine lv_aload_n hx hb dJ2_indexOfRange_0 rfl (lv_at hl 0 rfl) ?_
  obtain ⟨v_12, ev_12, hf⟩ := ob hf
  refine g_get X I gfJ2_9 (gR_in ev_12) dJ2_indexOfRange_1 ?_
  refine lo_astore (x := v_12) (lv' := [(4, va_rf v_12), (0, .ref x0), (1, .ref x1), (2, .int x2), (3, .int x3)]) hx hb dJ2_indexOfRange_4 hl (by decide) rfl (fun ls hl => ?_)
  refine lv_aload_n hx hb dJ2_indexOfRange_6 rfl (lv_at hl 2 rfl) ?_
  refine lv_ifnonnull (tgt := 39) hx hb dJ2_indexOfRange_7 (by decide) ?_
  refine lv_iload_n hx hb dJ2_indexOfRange_39 rfl (lv_at hl 3 rfl) ?_
  refine lv_istore (lv' := [(5, .int x2), (4, va_rf v_12), (0, .ref x0), (1, .ref x1), (2, .int x2), (3, .int x3)]) hx hb dJ2_indexOfRange_40 hl (by decide) (by rcases v_12 with _ | _ <;> exact rfl) (fun ls hl => ?_)
  exact wJ2_indexOfRange_42 hX hR X N N x1 x3 v_12 x2 _ _ _ _ _ I (lv_sub hl [3, 5, 1, 0] rfl) hf
theorem mJ2_indexOfRange {E : EV} {l : Launch} {N : Nat} {σ : St} {x0 : Nat} {x1 : Nat} {x2 : Int32} {x3 : Int32} {res : Int32} (hX : XK E) (hf : fJ2_indexOfRange N σ x0 x1 x2 x3 = some res) : CM E l yJ2_indexOfRange (ws_ yJ2_indexOfRange cJ2_indexOfRange 6 (some .int)) 2 41 [.ref x0, .ref x1, .int x2, .int x3] σ (some (.int res)) σ := by
  refine CM.of hX.1 (by decide) rfl rfl (Nat.le_of_ble_eq_true rfl) ?_
  intro p e s m below meth c X I ls hl
  exact wJ2_indexOfRange_0 hX ⟨Nat.le_refl _, Nat.le_refl _⟩ X N _ _ _ _ _ _ _ _ _ I hl hf
/-! java/util/ArrayList.indexOf(Ljava/lang/Object;)I imp=False fuel=True kap=False rt=I thr=False -/
theorem lvJ2_89 : GoodIn lw_all (wsV RJ2 89 RJ2 yJ2_indexOfRange (ws_ yJ2_indexOfRange cJ2_indexOfRange 6 (some .int))) := lw_V q1949 q1950 q1951 q118 q1952
theorem hdJ2_89 : yJ2_indexOfRange.cls = RJ2 ∧ yJ2_indexOfRange.cls ≠ "java/lang/invoke/MethodHandle" ∧ yJ2_indexOfRange.cls ≠ "java/lang/invoke/VarHandle" ∧ (parseMethodDescriptor yJ2_indexOfRange.desc).map (fun d => d.parameters.length) = some 3 := by decide +kernel
def fJ2_indexOf (N : Nat) (σ : St) (x0 : Nat) (x1 : Nat) : Option Int32 := (gI σ x0 [(21, 2)]).bind fun v_1 : Int32 => (isC σ x0 21).bind fun u_2 : Unit => (fJ2_indexOfRange N σ x0 x1 (0 : Int32) v_1).bind fun v_3 : Int32 => some v_3
theorem wJ2_indexOf_0 {E : EV} {l : Launch} {p : Program} {e : Env} {s : State} {m : MethodId} {args : Array Value} {below : List Frame} {meth : Method} {c : Code} {R : Room} {σ : St} {res : Int32} (hX : XK E) (hR : 3 ≤ R.frames ∧ 66 ≤ R.locals) (X : MX E p s m args meth c cJ2_indexOf 2 (some .int) RJ2 "indexOf") (N : Nat) : ∀ (x0 : Nat) (x1 : Nat) (H : Heap) (locs : List Loc) (cells slots : Nat) (ls : Array Slot), WI E R s σ H locs cells slots → lv_has ls 2 [(0, .ref x0), (1, .ref x1)] → fJ2_indexOf N σ x0 x1 = some res → W p l e R s m args below meth c H locs cells slots (MQ below (Qd E R.cells R.slots (some (.int res)) σ) args s R.cells R.slots (fr E)) (F0 m 0 ls []) := by
  intro x0 x1 H locs cells slots ls I hl hf
  obtain ⟨⟨hx, hb, hml, hown, hts⟩, -⟩ := id X
  unfold fJ2_indexOf at hf
  refine lv_aload_n hx hb dJ2_indexOf_0 rfl (lv_at hl 0 rfl) ?_
  refine lv_aload_n hx hb dJ2_indexOf_1 rfl (lv_at hl 1 rfl) ?_
  refine lv_iconst (v := 0) hx hb dJ2_indexOf_2 (by decide) ?_
  refine lv_aload_n hx hb dJ2_indexOf_3 rfl (lv_at hl 0 rfl) ?_
  obtain ⟨v_1, ev_1, hf⟩ := ob hf
  refine g_get X I gfJ2_48 (gI_in ev_1) dJ2_indexOf_4 ?_
  obtain ⟨u_2, eu_2, hf⟩ := ob hf
  obtain ⟨v_3, ev_3, hf⟩ := ob hf
  refine cg_V (vw := (RJ2, TJ2, 3)) (ci := 21) (r := (some (.int v_3))) (σ' := σ) (rs := [.int v_3]) (rest := []) (As := [.ref x1, .int (0 : Int32), .int v_1]) X I eu_2 rfl (mJ2_indexOfRange hX ev_3) lvJ2_89 hdJ2_89 ⟨Nat.le_trans (Nat.le_of_ble_eq_true rfl) hR.1, Nat.le_trans (Nat.le_of_ble_eq_true rfl) hR.2⟩ rfl hl.1 rfl (Nat.le_of_ble_eq_true rfl) rfl dJ2_indexOf_7 (fun H locs cells slots I => ?_)
  cases os hf
  exact r_iret X I dJ2_indexOf_10
theorem mJ2_indexOf {E : EV} {l : Launch} {N : Nat} {σ : St} {x0 : Nat} {x1 : Nat} {res : Int32} (hX : XK E) (hf : fJ2_indexOf N σ x0 x1 = some res) : CM E l yJ2_indexOf (ws_ yJ2_indexOf cJ2_indexOf 2 (some .int)) 3 66 [.ref x0, .ref x1] σ (some (.int res)) σ := by
  refine CM.of hX.1 (by decide) rfl rfl (Nat.le_of_ble_eq_true rfl) ?_
  intro p e s m below meth c X I ls hl
  exact wJ2_indexOf_0 hX ⟨Nat.le_refl _, Nat.le_refl _⟩ X N _ _ _ _ _ _ _ I hl hf
/-! SharedTaxis$State.amount(II)I imp=False fuel=False kap=False rt=I thr=False -/
theorem gfX2_42 : ∀ q ∈ ([(1, 3)] : List (Nat × Nat)), GF RX2 42 q := List.forall_mem_cons.mpr ⟨⟨RX2, TX2, 7, _, rfl, in_X2, by decide, q245, Or.inl rfl⟩, fun _ h => by cases h⟩
theorem gfX2_9 : ∀ q ∈ ([(1, 1)] : List (Nat × Nat)), GF RX2 9 q := List.forall_mem_cons.mpr ⟨⟨RX2, TX2, 7, _, rfl, in_X2, by decide, q235, Or.inl rfl⟩, fun _ h => by cases h⟩
def fX2_amount_31 (σ : St) (x3 : Int32) (y0 : Int32) : Option Int32 := some (x3 - ((x3 * y0) / (100 : Int32)))
def fX2_amount (σ : St) (x0 : Nat) (x1 : Int32) (x2 : Int32) : Option Int32 := (gI σ x0 [(1, 3)]).bind fun v_1 : Int32 => lt (x1 * v_1) fun x3_2 : Int32 => if (2 : Int32) ≤ x2 then (gR σ x0 [(1, 1)]).bind fun v_3 : Option Nat => (v_3).bind fun a_4 : Nat => (aI σ a_4 0 (((7 : Int32) + (if (4 : Int32) < x2 then (4 : Int32) else x2)) - (2 : Int32))).bind fun v_5 : Int32 => fX2_amount_31 σ x3_2 v_5 else fX2_amount_31 σ x3_2 (0 : Int32)
theorem wX2_amount_31 {E : EV} {l : Launch} {p : Program} {e : Env} {s : State} {m : MethodId} {args : Array Value} {below : List Frame} {meth : Method} {c : Code} {R : Room} {σ : St} {res : Int32} (hX : XK E) (hR : 1 ≤ R.frames ∧ 21 ≤ R.locals) (X : MX E p s m args meth c cX2_amount 5 (some .int) RX2 "amount") : ∀ (x3 : Int32) (y0 : Int32) (H : Heap) (locs : List Loc) (cells slots : Nat) (ls : Array Slot), WI E R s σ H locs cells slots → lv_has ls 5 [(3, .int x3)] → fX2_amount_31 σ x3 y0 = some res → W p l e R s m args below meth c H locs cells slots (MQ below (Qd E R.cells R.slots (some (.int res)) σ) args s R.cells R.slots (fr E)) (F0 m 31 ls [.int y0]) := by
  intro x3 y0 H locs cells slots ls I hl hf
  obtain ⟨⟨hx, hb, hml, hown, hts⟩, -⟩ := id X
  unfold fX2_amount_31 at hf
  refine lv_istore (lv' := [(4, .int y0), (3, .int x3)]) hx hb dX2_amount_31 hl (by decide) rfl (fun ls hl => ?_)
  refine lv_iload_n hx hb dX2_amount_33 rfl (lv_at hl 1 rfl) ?_
  refine lv_iload_n hx hb dX2_amount_34 rfl (lv_at hl 1 rfl) ?_
  refine lv_iload hx hb dX2_amount_35 (lv_at hl 0 rfl) ?_
  refine lv_imul hx hb dX2_amount_37 ?_
  refine lv_bipush (v := 100) hx hb dX2_amount_38 (by decide) ?_
  refine lv_idiv hx hb dX2_amount_40 (by decide) ?_
  refine lv_isub hx hb dX2_amount_41 ?_
  cases os hf
  exact r_iret X I dX2_amount_42
theorem wX2_amount_0 {E : EV} {l : Launch} {p : Program} {e : Env} {s : State} {m : MethodId} {args : Array Value} {below : List Frame} {meth : Method} {c : Code} {R : Room} {σ : St} {res : Int32} (hX : XK E) (hR : 1 ≤ R.frames ∧ 21 ≤ R.locals) (X : MX E p s m args meth c cX2_amount 5 (some .int) RX2 "amount") : ∀ (x0 : Nat) (x1 : Int32) (x2 : Int32) (H : Heap) (locs : List Loc) (cells slots : Nat) (ls : Array Slot), WI E R s σ H locs cells slots → lv_has ls 5 [(0, .ref x0), (1, .int x1), (2, .int x2)] → fX2_amount σ x0 x1 x2 = some res → W p l e R s m args below meth c H locs cells slots (MQ below (Qd E R.cells R.slots (some (.int res)) σ) args s R.cells R.slots (fr E)) (F0 m 0 ls []) := by
  intro x0 x1 x2 H locs cells slots ls I hl hf
  obtain ⟨⟨hx, hb, hml, hown, hts⟩, -⟩ := id X
  unfold fX2_amount at hf
  refine lv_iload_n hx hb dX2_amount_0 rfl (lv_at hl 1 rfl) ?_
  refine lv_aload_n hx hb dX2_amount_1 rfl (lv_at hl 0 rfl) ?_
  obtain ⟨v_1, ev_1, hf⟩ := ob hf
  refine g_get X I gfX2_42 (gI_in ev_1) dX2_amount_2 ?_
  refine lv_imul hx hb dX2_amount_5 ?_
  obtain ⟨x3_2, ex3_2, hf⟩ := ol hf
  refine nm_i ex3_2 ?_
  refine lv_istore_n (lv' := [(3, .int x3_2), (0, .ref x0), (1, .int x1), (2, .int x2)]) hx hb dX2_amount_6 rfl hl (by decide) rfl (fun ls hl => ?_)
  refine lv_iload_n hx hb dX2_amount_7 rfl (lv_at hl 3 rfl) ?_
  refine lv_iconst (v := 2) hx hb dX2_amount_8 (by decide) ?_
  refine lv_icmp_ge (tgt := 16) hx hb dX2_amount_9 (by decide) (fun c_9 => ?_) (fun c_9 => ?_)
  · have hf := ip c_9 hf
    refine lv_aload_n hx hb dX2_amount_16 rfl (lv_at hl 1 rfl) ?_
    obtain ⟨v_3, ev_3, hf⟩ := ob hf
    refine g_get X I gfX2_9 (gR_in ev_3) dX2_amount_17 ?_
    refine lv_bipush (v := 7) hx hb dX2_amount_20 (by decide) ?_
    refine lv_iload_n hx hb dX2_amount_22 rfl (lv_at hl 3 rfl) ?_
    refine lv_iconst (v := 4) hx hb dX2_amount_23 (by decide) ?_
    refine g_mmin X I ⟨Nat.le_trans (Nat.le_of_ble_eq_true rfl) hR.1, Nat.le_trans (Nat.le_of_ble_eq_true rfl) hR.2⟩ q1993 hl.1 (by rcases v_3 with _ | _ <;> exact (Nat.le_of_ble_eq_true rfl)) dX2_amount_24 ?_
    refine lv_iadd hx hb dX2_amount_27 ?_
    refine lv_iconst (v := 2) hx hb dX2_amount_28 (by decide) ?_
    refine lv_isub hx hb dX2_amount_29 ?_
    obtain ⟨a_4, ea_4, hga_4⟩ := ob hf
    have hla_4 := hl
    have Ia_4 := I
    subst ea_4
    have hf := hga_4
    have hl := hla_4
    have I := Ia_4
    obtain ⟨v_5, ev_5, hf⟩ := ob hf
    refine g_iald X I ev_5 dX2_amount_30 ?_
    exact wX2_amount_31 hX hR X x3_2 v_5 _ _ _ _ _ I (lv_sub hl [0] rfl) hf
  · have hf := im c_9 hf
    refine lv_iconst (v := 0) hx hb dX2_amount_12 (by decide) ?_
    refine lv_goto (tgt := 31) hx hb dX2_amount_13 (by decide) ?_
    exact wX2_amount_31 hX hR X x3_2 (0 : Int32) _ _ _ _ _ I (lv_sub hl [0] rfl) hf
theorem mX2_amount {E : EV} {l : Launch} {σ : St} {x0 : Nat} {x1 : Int32} {x2 : Int32} {res : Int32} (hX : XK E) (hf : fX2_amount σ x0 x1 x2 = some res) : CM E l yX2_amount (ws_ yX2_amount cX2_amount 5 (some .int)) 1 21 [.ref x0, .int x1, .int x2] σ (some (.int res)) σ := by
  refine CM.of hX.1 (by decide) rfl rfl (Nat.le_of_ble_eq_true rfl) ?_
  intro p e s m below meth c X I ls hl
  exact wX2_amount_0 hX ⟨Nat.le_refl _, Nat.le_refl _⟩ X _ _ _ _ _ _ _ _ I hl hf
/-! SharedTaxis$State.part(III)I imp=False fuel=False kap=False rt=I thr=False -/
def fX2_part (σ : St) (x0 : Nat) (x1 : Int32) (x2 : Int32) (x3 : Int32) : Option Int32 := if x2 = 0 then none else if x2 = 0 then none else if (x1 - x1 / x2 * x2) ≤ x3 then some ((x1 / x2) + (0 : Int32)) else some ((x1 / x2) + (1 : Int32))
theorem wX2_part_0 {E : EV} {l : Launch} {p : Program} {e : Env} {s : State} {m : MethodId} {args : Array Value} {below : List Frame} {meth : Method} {c : Code} {R : Room} {σ : St} {res : Int32} (hX : XK E) (hR : 0 ≤ R.frames ∧ 0 ≤ R.locals) (X : MX E p s m args meth c cX2_part 4 (some .int) RX2 "part") : ∀ (x0 : Nat) (x1 : Int32) (x2 : Int32) (x3 : Int32) (H : Heap) (locs : List Loc) (cells slots : Nat) (ls : Array Slot), WI E R s σ H locs cells slots → lv_has ls 4 [(0, .ref x0), (1, .int x1), (2, .int x2), (3, .int x3)] → fX2_part σ x0 x1 x2 x3 = some res → W p l e R s m args below meth c H locs cells slots (MQ below (Qd E R.cells R.slots (some (.int res)) σ) args s R.cells R.slots (fr E)) (F0 m 0 ls []) := by
  intro x0 x1 x2 x3 H locs cells slots ls I hl hf
  obtain ⟨⟨hx, hb, hml, hown, hts⟩, -⟩ := id X
  unfold fX2_part at hf
  refine lv_iload_n hx hb dX2_part_0 rfl (lv_at hl 1 rfl) ?_
  refine lv_iload_n hx hb dX2_part_1 rfl (lv_at hl 2 rfl) ?_
  by_cases c_2 : x2 = 0
  · exact nomatch (ip c_2 hf)
  have hf := im c_2 hf
  refine lv_idiv hx hb dX2_part_2 c_2 ?_
  refine lv_iload_n hx hb dX2_part_3 rfl (lv_at hl 3 rfl) ?_
  refine lv_iload_n hx hb dX2_part_4 rfl (lv_at hl 1 rfl) ?_
  refine lv_iload_n hx hb dX2_part_5 rfl (lv_at hl 2 rfl) ?_
  by_cases c_6 : x2 = 0
  · exact nomatch (ip c_6 hf)
  have hf := im c_6 hf
  refine lv_irem hx hb dX2_part_6 c_6 ?_
  refine lv_icmp_ge (tgt := 14) hx hb dX2_part_7 (by decide) (fun c_7 => ?_) (fun c_7 => ?_)
  · have hf := ip c_7 hf
    refine lv_iconst (v := 0) hx hb dX2_part_14 (by decide) ?_
    refine lv_iadd hx hb dX2_part_15 ?_
    cases os hf
    exact r_iret X I dX2_part_16
  · have hf := im c_7 hf
    refine lv_iconst (v := 1) hx hb dX2_part_10 (by decide) ?_
    refine lv_goto (tgt := 15) hx hb dX2_part_11 (by decide) ?_
    refine lv_iadd hx hb dX2_part_15 ?_
    cases os hf
    exact r_iret X I dX2_part_16
theorem mX2_part {E : EV} {l : Launch} {σ : St} {x0 : Nat} {x1 : Int32} {x2 : Int32} {x3 : Int32} {res : Int32} (hX : XK E) (hf : fX2_part σ x0 x1 x2 x3 = some res) : CM E l yX2_part (ws_ yX2_part cX2_part 4 (some .int)) 0 0 [.ref x0, .int x1, .int x2, .int x3] σ (some (.int res)) σ := by
  refine CM.of hX.1 (by decide) rfl rfl (Nat.le_of_ble_eq_true rfl) ?_
  intro p e s m below meth c X I ls hl
  exact wX2_part_0 hX ⟨Nat.le_refl _, Nat.le_refl _⟩ X _ _ _ _ _ _ _ _ _ I hl hf
/-! java/util/ArrayList.fastRemove([Ljava/lang/Object;I)V imp=True fuel=False kap=False rt=None thr=False -/
def fJ2_fastRemove_34 (x0 : Nat) (x1 : Nat) (x3 : Int32) (σ : St) : Option St := (pV σ x0 [(21, 2)] (.int x3)).bind fun σ_1 : St => (sR σ_1 x1 3 x3 none).bind fun σ_2 : St => some σ_2
def fJ2_fastRemove (σ : St) (x0 : Nat) (x1 : Nat) (x2 : Int32) : Option St := (gI σ x0 [(21, 0)]).bind fun v_3 : Int32 => (pV σ x0 [(21, 0)] (.int (v_3 + (1 : Int32)))).bind fun σ_4 : St => (gI σ_4 x0 [(21, 2)]).bind fun v_5 : Int32 => lt (v_5 - (1 : Int32)) fun x3_6 : Int32 => if (v_5 - (1 : Int32)) ≤ x2 then fJ2_fastRemove_34 x0 x1 x3_6 σ_4 else (cpR σ_4 x1 3 (x2 + (1 : Int32)) x1 x2 (x3_6 - x2)).bind fun σ_7 : St => fJ2_fastRemove_34 x0 x1 x3_6 σ_7
theorem wJ2_fastRemove_34 {E : EV} {l : Launch} {p : Program} {e : Env} {s : State} {m : MethodId} {args : Array Value} {below : List Frame} {meth : Method} {c : Code} {R : Room} {res : St} (hX : XK E) (hR : 1 ≤ R.frames ∧ 40 ≤ R.locals) (X : MX E p s m args meth c cJ2_fastRemove 4 none RJ2 "fastRemove") : ∀ (x0 : Nat) (x1 : Nat) (x3 : Int32) (σ : St) (H : Heap) (locs : List Loc) (cells slots : Nat) (ls : Array Slot), WI E R s σ H locs cells slots → lv_has ls 4 [(0, .ref x0), (1, .ref x1), (3, .int x3)] → fJ2_fastRemove_34 x0 x1 x3 σ = some res → W p l e R s m args below meth c H locs cells slots (MQ below (Qd E R.cells R.slots none res) args s R.cells R.slots (fr E)) (F0 m 34 ls []) := by
  intro x0 x1 x3 σ H locs cells slots ls I hl hf
  obtain ⟨⟨hx, hb, hml, hown, hts⟩, -⟩ := id X
  unfold fJ2_fastRemove_34 at hf
  refine lv_aload_n hx hb dJ2_fastRemove_34 rfl (lv_at hl 1 rfl) ?_
  refine lv_aload_n hx hb dJ2_fastRemove_35 rfl (lv_at hl 0 rfl) ?_
  refine lv_iload_n hx hb dJ2_fastRemove_36 rfl (lv_at hl 2 rfl) ?_
  refine lv_dup_x1 hx hb dJ2_fastRemove_37 rfl rfl ?_
  obtain ⟨σ_1, eσ_1, hf⟩ := ob hf
  refine g_put X I pfJ2_48 rfl rfl eσ_1 dJ2_fastRemove_38 (fun H locs I => ?_)
  refine lv_null hx hb dJ2_fastRemove_41 ?_
  obtain ⟨σ_2, eσ_2, hf⟩ := ob hf
  refine g_aast (v := none) hX X I (by decide) eσ_2 dJ2_fastRemove_42 (fun H locs I => ?_)
  cases os hf
  exact r_vret X I dJ2_fastRemove_43
theorem wJ2_fastRemove_0 {E : EV} {l : Launch} {p : Program} {e : Env} {s : State} {m : MethodId} {args : Array Value} {below : List Frame} {meth : Method} {c : Code} {R : Room} {res : St} (hX : XK E) (hR : 1 ≤ R.frames ∧ 40 ≤ R.locals) (X : MX E p s m args meth c cJ2_fastRemove 4 none RJ2 "fastRemove") : ∀ (x0 : Nat) (x1 : Nat) (x2 : Int32) (σ : St) (H : Heap) (locs : List Loc) (cells slots : Nat) (ls : Array Slot), WI E R s σ H locs cells slots → lv_has ls 4 [(0, .ref x0), (1, .ref x1), (2, .int x2)] → fJ2_fastRemove σ x0 x1 x2 = some res → W p l e R s m args below meth c H locs cells slots (MQ below (Qd E R.cells R.slots none res) args s R.cells R.slots (fr E)) (F0 m 0 ls []) := by
  intro x0 x1 x2 σ H locs cells slots ls I hl hf
  obtain ⟨⟨hx, hb, hml, hown, hts⟩, -⟩ := id X
  unfold fJ2_fastRemove at hf
  refine lv_aload_n hx hb dJ2_fastRemove_0 rfl (lv_at hl 0 rfl) ?_
  refine lv_dup hx hb dJ2_fastRemove_1 rfl ?_
  obtain ⟨v_3, ev_3, hf⟩ := ob hf
  refine g_get X I gfJ2_63 (gI_in ev_3) dJ2_fastRemove_2 ?_
  refine lv_iconst (v := 1) hx hb dJ2_fastRemove_5 (by decide) ?_
  refine lv_iadd hx hb dJ2_fastRemove_6 ?_
  obtain ⟨σ_4, eσ_4, hf⟩ := ob hf
  refine g_put X I pfJ2_63 rfl rfl eσ_4 dJ2_fastRemove_7 (fun H locs I => ?_)
  refine lv_aload_n hx hb dJ2_fastRemove_10 rfl (lv_at hl 0 rfl) ?_
  obtain ⟨v_5, ev_5, hf⟩ := ob hf
  refine g_get X I gfJ2_48 (gI_in ev_5) dJ2_fastRemove_11 ?_
  refine lv_iconst (v := 1) hx hb dJ2_fastRemove_14 (by decide) ?_
  refine lv_isub hx hb dJ2_fastRemove_15 ?_
  refine lv_dup hx hb dJ2_fastRemove_16 rfl ?_
  obtain ⟨x3_6, ex3_6, hf⟩ := ol hf
  refine nm_i ex3_6 ?_
  refine lv_istore_n (lv' := [(3, .int x3_6), (0, .ref x0), (1, .ref x1), (2, .int x2)]) hx hb dJ2_fastRemove_17 rfl hl (by decide) rfl (fun ls hl => ?_)
  refine lv_iload_n hx hb dJ2_fastRemove_18 rfl (lv_at hl 3 rfl) ?_
  refine lv_icmp_le (tgt := 34) hx hb dJ2_fastRemove_19 (by decide) (fun c_19 => ?_) (fun c_19 => ?_)
  · have hf := ip c_19 hf
    exact wJ2_fastRemove_34 hX hR X x0 x1 x3_6 σ_4 _ _ _ _ _ I (lv_sub hl [1, 2, 0] rfl) hf
  · have hf := im c_19 hf
    refine lv_aload_n hx hb dJ2_fastRemove_22 rfl (lv_at hl 2 rfl) ?_
    refine lv_iload_n hx hb dJ2_fastRemove_23 rfl (lv_at hl 3 rfl) ?_
    refine lv_iconst (v := 1) hx hb dJ2_fastRemove_24 (by decide) ?_
    refine lv_iadd hx hb dJ2_fastRemove_25 ?_
    refine lv_aload_n hx hb dJ2_fastRemove_26 rfl (lv_at hl 2 rfl) ?_
    refine lv_iload_n hx hb dJ2_fastRemove_27 rfl (lv_at hl 3 rfl) ?_
    refine lv_iload_n hx hb dJ2_fastRemove_28 rfl (lv_at hl 0 rfl) ?_
    refine lv_iload_n hx hb dJ2_fastRemove_29 rfl (lv_at hl 3 rfl) ?_
    refine lv_isub hx hb dJ2_fastRemove_30 ?_
    obtain ⟨σ_7, eσ_7, hf⟩ := ob hf
    refine g_copyR hX X I (by decide) q1073 eσ_7 hl.1 ⟨Nat.le_trans (Nat.le_of_ble_eq_true rfl) hR.1, Nat.le_trans (Nat.le_of_ble_eq_true rfl) hR.2⟩ (Nat.le_of_ble_eq_true rfl) dJ2_fastRemove_31 (fun H locs I => ?_)
    exact wJ2_fastRemove_34 hX hR X x0 x1 x3_6 σ_7 _ _ _ _ _ I (lv_sub hl [1, 2, 0] rfl) hf
theorem mJ2_fastRemove {E : EV} {l : Launch} {σ : St} {x0 : Nat} {x1 : Nat} {x2 : Int32} {res : St} (hX : XK E) (hf : fJ2_fastRemove σ x0 x1 x2 = some res) : CM E l yJ2_fastRemove (ws_ yJ2_fastRemove cJ2_fastRemove 4 none) 1 40 [.ref x0, .ref x1, .int x2] σ none res := by
  refine CM.of hX.1 (by decide) rfl rfl (Nat.le_of_ble_eq_true rfl) ?_
  intro p e s m below meth c X I ls hl
  exact wJ2_fastRemove_0 hX ⟨Nat.le_refl _, Nat.le_refl _⟩ X _ _ _ _ _ _ _ _ _ I hl hf
/-! java/util/ArrayList.remove(Ljava/lang/Object;)Z imp=True fuel=True kap=False rt=I thr=False -/
theorem lvJ2_144 : GoodIn lw_all (wsV RJ2 144 RJ2 yJ2_fastRemove (ws_ yJ2_fastRemove cJ2_fastRemove 4 none)) := lw_V q2009 q2011 qs27 q118 q2012
theorem hdJ2_144 : yJ2_fastRemove.cls = RJ2 ∧ yJ2_fastRemove.cls ≠ "java/lang/invoke/MethodHandle" ∧ yJ2_fastRemove.cls ≠ "java/lang/invoke/VarHandle" ∧ (parseMethodDescriptor yJ2_fastRemove.desc).map (fun d => d.parameters.length) = some 2 := by decide +kernel
def fJ2_remove_67 (N : Nat) (x0 : Nat) (x2 : Option Nat) (x4 : Int32) (σ : St) : Option (Int32 × St) := (x2).bind fun a_1 : Nat => (isC σ x0 21).bind fun u_2 : Unit => (fJ2_fastRemove σ x0 a_1 x4).bind fun σ_4 : St => some ((1 : Int32), σ_4)
def fJ2_remove_39 (N : Nat) : Nat → Nat → Nat → Option Nat → Int32 → Int32 → St → Option (Int32 × St)
  | 0, _, _, _, _, _, _ => none
  | n + 1, x0, x1, x2, x3, x4, σ => if x3 ≤ x4 then some ((0 : Int32), σ) else (x2).bind fun a_5 : Nat => (aR σ a_5 3 x4).bind fun v_6 : Option Nat => (v_6).bind fun a_7 : Nat => (isC σ x1 27).bind fun u_8 : Unit => (fJ18_equals σ x1 a_7).bind fun v_9 : Int32 => if v_9 = 0 then lt (x4 + 1) fun x4_11 : Int32 => fJ2_remove_39 N n x0 x1 (some a_5) x3 x4_11 σ else fJ2_remove_67 N x0 (some a_5) x4 σ
def fJ2_remove_17 (N : Nat) : Nat → Nat → Option Nat → Int32 → Int32 → St → Option (Int32 × St)
  | 0, _, _, _, _, _ => none
  | n + 1, x0, x2, x3, x4, σ => if x3 ≤ x4 then some ((0 : Int32), σ) else (x2).bind fun a_12 : Nat => (aR σ a_12 3 x4).bind fun v_13 : Option Nat => oc v_13 (fJ2_remove_67 N x0 (some a_12) x4 σ) fun a_14 => lt (x4 + 1) fun x4_15 : Int32 => fJ2_remove_17 N n x0 (some a_12) x3 x4_15 σ
def fJ2_remove (N : Nat) (σ : St) (x0 : Nat) (x1 : Nat) : Option (Int32 × St) := (gR σ x0 [(21, 1)]).bind fun v_16 : Option Nat => (gI σ x0 [(21, 2)]).bind fun v_17 : Int32 => fJ2_remove_39 N N x0 x1 v_16 v_17 (0 : Int32) σ
theorem wJ2_remove_67 {E : EV} {l : Launch} {p : Program} {e : Env} {s : State} {m : MethodId} {args : Array Value} {below : List Frame} {meth : Method} {c : Code} {R : Room} {res : (Int32 × St)} (hX : XK E) (hR : 2 ≤ R.frames ∧ 63 ≤ R.locals) (X : MX E p s m args meth c cJ2_remove 5 (some .boolean) RJ2 "remove") (N : Nat) : ∀ (x0 : Nat) (x2 : Option Nat) (x4 : Int32) (σ : St) (H : Heap) (locs : List Loc) (cells slots : Nat) (ls : Array Slot), WI E R s σ H locs cells slots → lv_has ls 5 [(0, .ref x0), (2, va_rf x2), (4, .int x4)] → fJ2_remove_67 N x0 x2 x4 σ = some res → W p l e R s m args below meth c H locs cells slots (MQ below (Qd E R.cells R.slots (some (.int res.1)) res.2) args s R.cells R.slots (fr E)) (F0 m 67 ls []) := by
  intro x0 x2 x4 σ H locs cells slots ls I hl hf
  obtain ⟨⟨hx, hb, hml, hown, hts⟩, -⟩ := id X
  unfold fJ2_remove_67 at hf
  refine lv_aload_n hx hb dJ2_remove_67 rfl (lv_at hl 0 rfl) ?_
  refine lo_aload_n (x := x2) hx hb dJ2_remove_68 rfl (lv_at hl 1 rfl) ?_
  refine lv_iload hx hb dJ2_remove_69 (lv_at hl 2 rfl) ?_
  obtain ⟨a_1, ea_1, hga_1⟩ := ob hf
  have hla_1 := hl
  have Ia_1 := I
  subst ea_1
  have hf := hga_1
  have hl := hla_1
  have I := Ia_1
  obtain ⟨u_2, eu_2, hf⟩ := ob hf
  obtain ⟨σ_4, ev_3, hf⟩ := ob hf
  refine cg_V (vw := (RJ2, TJ2, 3)) (ci := 21) (r := none) (σ' := σ_4) (rs := []) (rest := []) (As := [.ref a_1, .int x4]) X I eu_2 rfl (mJ2_fastRemove hX ev_3) lvJ2_144 hdJ2_144 ⟨Nat.le_trans (Nat.le_of_ble_eq_true rfl) hR.1, Nat.le_trans (Nat.le_of_ble_eq_true rfl) hR.2⟩ rfl hl.1 rfl (Nat.le_of_ble_eq_true rfl) rfl dJ2_remove_71 (fun H locs cells slots I => ?_)
  refine lv_iconst (v := 1) hx hb dJ2_remove_74 (by decide) ?_
  cases os hf
  exact r_zret X I (Or.inr rfl) dJ2_remove_75
theorem wJ2_remove_39 {E : EV} {l : Launch} {p : Program} {e : Env} {s : State} {m : MethodId} {args : Array Value} {below : List Frame} {meth : Method} {c : Code} {R : Room} {res : (Int32 × St)} (hX : XK E) (hR : 2 ≤ R.frames ∧ 63 ≤ R.locals) (X : MX E p s m args meth c cJ2_remove 5 (some .boolean) RJ2 "remove") (N : Nat) : ∀ (n : Nat) (x0 : Nat) (x1 : Nat) (x2 : Option Nat) (x3 : Int32) (x4 : Int32) (σ : St) (H : Heap) (locs : List Loc) (cells slots : Nat) (ls : Array Slot), WI E R s σ H locs cells slots → lv_has ls 5 [(0, .ref x0), (1, .ref x1), (2, va_rf x2), (3, .int x3), (4, .int x4)] → fJ2_remove_39 N n x0 x1 x2 x3 x4 σ = some res → W p l e R s m args below meth c H locs cells slots (MQ below (Qd E R.cells R.slots (some (.int res.1)) res.2) args s R.cells R.slots (fr E)) (F0 m 39 ls []) := by
  intro n
  induction n with
  | zero => intro x0 x1 x2 x3 x4 σ H locs cells slots ls I hl hf; exact nomatch (show none = some res from hf)
  | succ n ih =>
    intro x0 x1 x2 x3 x4 σ H locs cells slots ls I hl hf
    obtain ⟨⟨hx, hb, hml, hown, hts⟩, -⟩ := id X
    rw [fJ2_remove_39.eq_2] at hf
    refine lv_iload hx hb dJ2_remove_39 (lv_at hl 4 rfl) ?_
    refine lv_iload_n hx hb dJ2_remove_41 rfl (lv_at hl 3 rfl) ?_
    refine lv_icmp_ge (tgt := 65) hx hb dJ2_remove_42 (by decide) (fun c_42 => ?_) (fun c_42 => ?_)
    · have hf := ip c_42 hf
      refine lv_iconst (v := 0) hx hb dJ2_remove_65 (by decide) ?_
      cases os hf
      exact r_zret X I (Or.inl rfl) dJ2_remove_66
    · have hf := im c_42 hf
      refine lv_aload_n hx hb dJ2_remove_45 rfl (lv_at hl 1 rfl) ?_
      refine lo_aload_n (x := x2) hx hb dJ2_remove_46 rfl (lv_at hl 2 rfl) ?_
      refine lv_iload hx hb dJ2_remove_47 (lv_at hl 4 rfl) ?_
      obtain ⟨a_5, ea_5, hga_5⟩ := ob hf
      have hla_5 := hl
      have Ia_5 := I
      subst ea_5
      have hf := hga_5
      have hl := hla_5
      have I := Ia_5
      obtain ⟨v_6, ev_6, hf⟩ := ob hf
      refine g_aald X I (by decide) rfl ev_6 dJ2_remove_49 ?_
      obtain ⟨a_7, ea_7, hga_7⟩ := ob hf
      have hla_7 := hl
      have Ia_7 := I
      subst ea_7
      have hf := hga_7
      have hl := hla_7
      have I := Ia_7
      obtain ⟨u_8, eu_8, hf⟩ := ob hf
      obtain ⟨v_9, ev_9, hf⟩ := ob hf
      refine cg_O (vw := (RJ18, TJ18, 1)) (ci := 27) (r := (some (.int v_9))) (σ' := σ) (rs := [.int v_9]) (rest := []) (As := [.ref a_7]) X I eu_8 rfl (mJ18_equals hX ev_9) lvJ2_93 hdJ2_93 ⟨Nat.le_trans (Nat.le_of_ble_eq_true rfl) hR.1, Nat.le_trans (Nat.le_of_ble_eq_true rfl) hR.2⟩ rfl hl.1 rfl (Nat.le_of_ble_eq_true rfl) rfl dJ2_remove_50 (fun H locs cells slots I => ?_)
      refine lv_if_eq (tgt := 59) hx hb dJ2_remove_53 (by decide) (fun c_53 => ?_) (fun c_53 => ?_)
      · have hf := ip c_53 hf
        obtain ⟨x4_11, ex4_11, hf⟩ := ol hf
        refine lv_iinc (v := x4_11) (lv' := [(4, .int x4_11), (0, .ref x0), (1, .ref x1), (2, .ref a_5), (3, .int x3)]) hx hb dJ2_remove_59 hl (k := 4) rfl ex4_11 (by decide) rfl (fun ls hl => ?_)
        refine lv_goto (tgt := 39) hx hb dJ2_remove_62 (by decide) ?_
        exact ih x0 x1 (some a_5) x3 x4_11 σ _ _ _ _ _ I (lv_sub hl [1, 2, 3, 4, 0] rfl) hf
      · have hf := im c_53 hf
        refine lv_goto (tgt := 67) hx hb dJ2_remove_56 (by decide) ?_
        exact wJ2_remove_67 hX hR X N x0 (some a_5) x4 σ _ _ _ _ _ I (lv_sub hl [0, 2, 4] rfl) hf
theorem wJ2_remove_17 {E : EV} {l : Launch} {p : Program} {e : Env} {s : State} {m : MethodId} {args : Array Value} {below : List Frame} {meth : Method} {c : Code} {R : Room} {res : (Int32 × St)} (hX : XK E) (hR : 2 ≤ R.frames ∧ 63 ≤ R.locals) (X : MX E p s m args meth c cJ2_remove 5 (some .boolean) RJ2 "remove") (N : Nat) : ∀ (n : Nat) (x0 : Nat) (x2 : Option Nat) (x3 : Int32) (x4 : Int32) (σ : St) (H : Heap) (locs : List Loc) (cells slots : Nat) (ls : Array Slot), WI E R s σ H locs cells slots → lv_has ls 5 [(0, .ref x0), (2, va_rf x2), (3, .int x3), (4, .int x4)] → fJ2_remove_17 N n x0 x2 x3 x4 σ = some res → W p l e R s m args below meth c H locs cells slots (MQ below (Qd E R.cells R.slots (some (.int res.1)) res.2) args s R.cells R.slots (fr E)) (F0 m 17 ls []) := by
  intro n
  induction n with
  | zero => intro x0 x2 x3 x4 σ H locs cells slots ls I hl hf; exact nomatch (show none = some res from hf)
  | succ n ih =>
    intro x0 x2 x3 x4 σ H locs cells slots ls I hl hf
    obtain ⟨⟨hx, hb, hml, hown, hts⟩, -⟩ := id X
    rw [fJ2_remove_17.eq_2] at hf
    refine lv_iload hx hb dJ2_remove_17 (lv_at hl 3 rfl) ?_
    refine lv_iload_n hx hb dJ2_remove_19 rfl (lv_at hl 2 rfl) ?_
    refine lv_icmp_ge (tgt := 65) hx hb dJ2_remove_20 (by decide) (fun c_20 => ?_) (fun c_20 => ?_)
    · have hf := ip c_20 hf
      refine lv_iconst (v := 0) hx hb dJ2_remove_65 (by decide) ?_
      cases os hf
      exact r_zret X I (Or.inl rfl) dJ2_remove_66
    · have hf := im c_20 hf
      refine lo_aload_n (x := x2) hx hb dJ2_remove_23 rfl (lv_at hl 1 rfl) ?_
      refine lv_iload hx hb dJ2_remove_24 (lv_at hl 3 rfl) ?_
      obtain ⟨a_12, ea_12, hga_12⟩ := ob hf
      have hla_12 := hl
      have Ia_12 := I
      subst ea_12
      have hf := hga_12
      have hl := hla_12
      have I := Ia_12
      obtain ⟨v_13, ev_13, hf⟩ := ob hf
      refine g_aald X I (by decide) rfl ev_13 dJ2_remove_26 ?_
      have hga_14 := hf
      have hla_14 := hl
      have Ia_14 := I
      rcases v_13 with _ | a_14
      · have hf := oc_n hga_14
        have hl := hla_14
        have I := Ia_14
        refine lv_ifnonnullN hx hb dJ2_remove_27 ?_
        refine lv_goto (tgt := 67) hx hb dJ2_remove_30 (by decide) ?_
        exact wJ2_remove_67 hX hR X N x0 (some a_12) x4 σ _ _ _ _ _ I (lv_sub hl [0, 1, 3] rfl) hf
      · have hf := oc_s hga_14
        have hl := hla_14
        have I := Ia_14
        refine lv_ifnonnull (tgt := 33) hx hb dJ2_remove_27 (by decide) ?_
        obtain ⟨x4_15, ex4_15, hf⟩ := ol hf
        refine lv_iinc (v := x4_15) (lv' := [(4, .int x4_15), (0, .ref x0), (2, .ref a_12), (3, .int x3)]) hx hb dJ2_remove_33 hl (k := 3) rfl ex4_15 (by decide) rfl (fun ls hl => ?_)
        refine lv_goto (tgt := 17) hx hb dJ2_remove_36 (by decide) ?_
        exact ih x0 (some a_12) x3 x4_15 σ _ _ _ _ _ I (lv_sub hl [1, 2, 3, 0] rfl) hf
theorem wJ2_remove_0 {E : EV} {l : Launch} {p : Program} {e : Env} {s : State} {m : MethodId} {args : Array Value} {below : List Frame} {meth : Method} {c : Code} {R : Room} {res : (Int32 × St)} (hX : XK E) (hR : 2 ≤ R.frames ∧ 63 ≤ R.locals) (X : MX E p s m args meth c cJ2_remove 5 (some .boolean) RJ2 "remove") (N : Nat) : ∀ (x0 : Nat) (x1 : Nat) (σ : St) (H : Heap) (locs : List Loc) (cells slots : Nat) (ls : Array Slot), WI E R s σ H locs cells slots → lv_has ls 5 [(0, .ref x0), (1, .ref x1)] → fJ2_remove N σ x0 x1 = some res → W p l e R s m args below meth c H locs cells slots (MQ below (Qd E R.cells R.slots (some (.int res.1)) res.2) args s R.cells R.slots (fr E)) (F0 m 0 ls []) := by
  intro x0 x1 σ H locs cells slots ls I hl hf
  obtain ⟨⟨hx, hb, hml, hown, hts⟩, -⟩ := id X
  unfold fJ2_remove at hf
  refine lv_aload_n hx hb dJ2_remove_0 rfl (lv_at hl 0 rfl) ?_
  obtain ⟨v_16, ev_16, hf⟩ := ob hf
  refine g_get X I gfJ2_9 (gR_in ev_16) dJ2_remove_1 ?_
  refine lo_astore_n (x := v_16) (lv' := [(2, va_rf v_16), (0, .ref x0), (1, .ref x1)]) hx hb dJ2_remove_4 rfl hl (by decide) rfl (fun ls hl => ?_)
  refine lv_aload_n hx hb dJ2_remove_5 rfl (lv_at hl 1 rfl) ?_
  obtain ⟨v_17, ev_17, hf⟩ := ob hf
  refine g_get X I gfJ2_48 (gI_in ev_17) dJ2_remove_6 ?_
  refine lv_istore_n (lv' := [(3, .int v_17), (2, va_rf v_16), (0, .ref x0), (1, .ref x1)]) hx hb dJ2_remove_9 rfl hl (by decide) (by rcases v_16 with _ | _ <;> exact rfl) (fun ls hl => ?_)
  refine lv_iconst (v := 0) hx hb dJ2_remove_10 (by decide) ?_
  refine lv_istore (lv' := [(4, .int (0 : Int32)), (3, .int v_17), (2, va_rf v_16), (0, .ref x0), (1, .ref x1)]) hx hb dJ2_remove_11 hl (by decide) rfl (fun ls hl => ?_)
  refine lv_aload_n hx hb dJ2_remove_13 rfl (lv_at hl 4 rfl) ?_
  refine lv_ifnonnull (tgt := 39) hx hb dJ2_remove_14 (by decide) ?_
  exact wJ2_remove_39 hX hR X N N x0 x1 v_16 v_17 (0 : Int32) σ _ _ _ _ _ I (lv_sub hl [3, 4, 2, 1, 0] rfl) hf
theorem mJ2_remove {E : EV} {l : Launch} {N : Nat} {σ : St} {x0 : Nat} {x1 : Nat} {res : (Int32 × St)} (hX : XK E) (hf : fJ2_remove N σ x0 x1 = some res) : CM E l yJ2_remove (ws_ yJ2_remove cJ2_remove 5 (some .boolean)) 2 63 [.ref x0, .ref x1] σ (some (.int res.1)) res.2 := by
  refine CM.of hX.1 (by decide) rfl rfl (Nat.le_of_ble_eq_true rfl) ?_
  intro p e s m below meth c X I ls hl
  exact wJ2_remove_0 hX ⟨Nat.le_refl _, Nat.le_refl _⟩ X N _ _ _ _ _ _ _ _ I hl hf
/-! SharedTaxis.farther(LSharedTaxis$Taxi;I)I imp=True fuel=True kap=True rt=I thr=False -/
theorem lvX1_376 : GoodIn lw_all (va_wsS RX1 376 yJ18_valueOf (ws_ yJ18_valueOf cJ18_valueOf 1 (some (.object "java/lang/Integer")))) := lw_S q1920 q1921 q138 q1922
theorem hdX1_376 : yJ18_valueOf.cls ≠ "java/lang/invoke/MethodHandle" ∧ yJ18_valueOf.cls ≠ "java/lang/invoke/VarHandle" ∧ (parseMethodDescriptor yJ18_valueOf.desc).map (fun d => d.parameters.length) = some 1 := by decide +kernel
theorem lvX1_401_J2 : GoodIn lw_all (va_wsF RX1 401 RJ2 ⟨"java/util/List", "remove", "(Ljava/lang/Object;)Z"⟩ yJ2_remove (ws_ yJ2_remove cJ2_remove 5 (some .boolean))) ∧ (RJ2, ⟨"java/util/List", "remove", "(Ljava/lang/Object;)Z"⟩, yJ2_remove) ∈ FWL := ⟨lw_good (List.forall_mem_cons.mpr ⟨q2001, List.forall_mem_cons.mpr ⟨q2004, List.forall_mem_cons.mpr ⟨q2006, List.forall_mem_cons.mpr ⟨q118, fun w h => (lw_meth q2008 w h).1⟩⟩⟩⟩), List.mem_of_getElem? (i := 15) rfl⟩
theorem hdX1_401_J2 : (⟨"java/util/List", "remove", "(Ljava/lang/Object;)Z"⟩ : MethodName).cls ≠ "java/lang/invoke/MethodHandle" ∧ (⟨"java/util/List", "remove", "(Ljava/lang/Object;)Z"⟩ : MethodName).cls ≠ "java/lang/invoke/VarHandle" ∧ (parseMethodDescriptor (⟨"java/util/List", "remove", "(Ljava/lang/Object;)Z"⟩ : MethodName).desc).map (fun d => d.parameters.length) = some 1 := by decide +kernel
theorem gfX1_395 : ∀ q ∈ ([(11, 8)] : List (Nat × Nat)), GN RX1 395 q := List.forall_mem_cons.mpr ⟨⟨RX13, TX13, 17, _, rfl, in_X13, by decide, q1654⟩, fun _ h => by cases h⟩
theorem lvX1_398_J2 : GoodIn lw_all (va_wsF RX1 398 RJ2 ⟨"java/util/List", "add", "(Ljava/lang/Object;)Z"⟩ yJ2_add (ws_ yJ2_add cJ2_add 2 (some .boolean))) ∧ (RJ2, ⟨"java/util/List", "add", "(Ljava/lang/Object;)Z"⟩, yJ2_add) ∈ FWL := ⟨lw_good (List.forall_mem_cons.mpr ⟨q1999, List.forall_mem_cons.mpr ⟨q1078, List.forall_mem_cons.mpr ⟨q1080, List.forall_mem_cons.mpr ⟨q118, fun w h => (lw_meth q1082 w h).1⟩⟩⟩⟩), List.mem_of_getElem? (i := 7) rfl⟩
theorem hdX1_398_J2 : (⟨"java/util/List", "add", "(Ljava/lang/Object;)Z"⟩ : MethodName).cls ≠ "java/lang/invoke/MethodHandle" ∧ (⟨"java/util/List", "add", "(Ljava/lang/Object;)Z"⟩ : MethodName).cls ≠ "java/lang/invoke/VarHandle" ∧ (parseMethodDescriptor (⟨"java/util/List", "add", "(Ljava/lang/Object;)Z"⟩ : MethodName).desc).map (fun d => d.parameters.length) = some 1 := by decide +kernel
theorem lvX1_373 : GoodIn lw_all (wsV RX1 373 RX13 yX13_goesOn (ws_ yX13_goesOn cX13_goesOn 1 (some .boolean))) := lw_V q1919 q1839 q1840 q149 q1841
theorem hdX1_373 : yX13_goesOn.cls = RX13 ∧ yX13_goesOn.cls ≠ "java/lang/invoke/MethodHandle" ∧ yX13_goesOn.cls ≠ "java/lang/invoke/VarHandle" ∧ (parseMethodDescriptor yX13_goesOn.desc).map (fun d => d.parameters.length) = some 0 := by decide +kernel
theorem lvX1_382_J2 : GoodIn lw_all (va_wsF RX1 382 RJ2 ⟨"java/util/List", "indexOf", "(Ljava/lang/Object;)I"⟩ yJ2_indexOf (ws_ yJ2_indexOf cJ2_indexOf 2 (some .int))) ∧ (RJ2, ⟨"java/util/List", "indexOf", "(Ljava/lang/Object;)I"⟩, yJ2_indexOf) ∈ FWL := ⟨lw_good (List.forall_mem_cons.mpr ⟨q1941, List.forall_mem_cons.mpr ⟨q1944, List.forall_mem_cons.mpr ⟨q1946, List.forall_mem_cons.mpr ⟨q118, fun w h => (lw_meth q1948 w h).1⟩⟩⟩⟩), List.mem_of_getElem? (i := 11) rfl⟩
theorem hdX1_382_J2 : (⟨"java/util/List", "indexOf", "(Ljava/lang/Object;)I"⟩ : MethodName).cls ≠ "java/lang/invoke/MethodHandle" ∧ (⟨"java/util/List", "indexOf", "(Ljava/lang/Object;)I"⟩ : MethodName).cls ≠ "java/lang/invoke/VarHandle" ∧ (parseMethodDescriptor (⟨"java/util/List", "indexOf", "(Ljava/lang/Object;)I"⟩ : MethodName).desc).map (fun d => d.parameters.length) = some 1 := by decide +kernel
theorem gfX1_386 : ∀ q ∈ ([(11, 9)] : List (Nat × Nat)), GN RX1 386 q := List.forall_mem_cons.mpr ⟨⟨RX13, TX13, 17, _, rfl, in_X13, by decide, q1658⟩, fun _ h => by cases h⟩
theorem lvX1_388 : GoodIn lw_all (wsV RX1 388 RX2 yX2_amount (ws_ yX2_amount cX2_amount 5 (some .int))) := lw_V q1989 q1990 q1991 q114 q1992
theorem hdX1_388 : yX2_amount.cls = RX2 ∧ yX2_amount.cls ≠ "java/lang/invoke/MethodHandle" ∧ yX2_amount.cls ≠ "java/lang/invoke/VarHandle" ∧ (parseMethodDescriptor yX2_amount.desc).map (fun d => d.parameters.length) = some 2 := by decide +kernel
theorem lvX1_392 : GoodIn lw_all (wsV RX1 392 RX2 yX2_part (ws_ yX2_part cX2_part 4 (some .int))) := lw_V q1994 q1995 q1996 q114 q1997
theorem hdX1_392 : yX2_part.cls = RX2 ∧ yX2_part.cls ≠ "java/lang/invoke/MethodHandle" ∧ yX2_part.cls ≠ "java/lang/invoke/VarHandle" ∧ (parseMethodDescriptor yX2_part.desc).map (fun d => d.parameters.length) = some 3 := by decide +kernel
theorem noX1_368 : NO RX1 368 21 3 [.int 0, .null, .int 0] := ⟨RJ2, TJ2, tyJ2, rfl, in_J2, tyJ2_ok, by decide, q1903, q204, q118⟩
theorem lvX1_370 : GoodIn lw_all (ws_ yJ2_init_2 cJ2_init_2 3 none) ∧ Cond.initialized yJ2_init_2.cls ∈ lw_all ∧ Cond.methodLink RX1 370 yJ2_init_2 ∈ lw_all ∧ Cond.instanceMethod yJ2_init_2 ∈ lw_all ∧ yJ2_init_2.name = "<init>" := ⟨lw_meth q1906, q118, q1904, q1905, rfl⟩
theorem hdX1_370 : yJ2_init_2.cls ≠ "java/lang/invoke/MethodHandle" ∧ yJ2_init_2.cls ≠ "java/lang/invoke/VarHandle" ∧ (parseMethodDescriptor yJ2_init_2.desc).map (fun d => d.parameters.length) = some 1 := by decide +kernel
def fX1_farther_179 (N : Nat) (κ : Nat → Nat) (r36 : Nat → Int32 → Nat → Nat → Int32 → St → Option (Int32 × St)) (x0 : Nat) (x2 : Int32) (x3 : Nat) (x4 : Nat) (x5 : Int32) (σ : St) : Option (Int32 × St) := (gR σ x4 [(11, 7)]).bind fun v_1 : Option Nat => (v_1).bind fun a_2 : Nat => (gI σ a_2 [(13, 1)]).bind fun v_3 : Int32 => if v_3 = 0 then (gR σ x4 [(11, 7)]).bind fun v_4 : Option Nat => (v_4).bind fun a_5 : Nat => (gI σ a_5 [(13, 0)]).bind fun v_6 : Int32 => (fJ18_valueOf κ σ v_6).bind fun (v_7, σ_8) => (v_7).bind fun a_9 : Nat => (isC σ_8 x3 21).bind fun u_10 : Unit => (fJ2_remove N σ_8 x3 a_9).bind fun (v_11, σ_12) => r36 x0 x2 x3 x4 x5 σ_12 else r36 x0 x2 x3 x4 x5 σ
def fX1_farther_173 (N : Nat) (κ : Nat → Nat) (r36 : Nat → Int32 → Nat → Nat → Int32 → St → Option (Int32 × St)) (x0 : Nat) (x2 : Int32) (x3 : Nat) (x4 : Nat) (y0 : Int32) (y1 : Int32) (σ : St) : Option (Int32 × St) := lt (y0 + y1) fun x5_13 : Int32 => r36 x0 x2 x3 x4 x5_13 σ
def fX1_farther_105 (N : Nat) (κ : Nat → Nat) (r36 : Nat → Int32 → Nat → Nat → Int32 → St → Option (Int32 × St)) (x0 : Nat) (x2 : Int32) (x3 : Nat) (x4 : Nat) (y0 : Int32) (y1 : Int32) (σ : St) : Option (Int32 × St) := lt (y0 + y1) fun x5_14 : Int32 => (gR σ x4 [(11, 7)]).bind fun v_15 : Option Nat => (v_15).bind fun a_16 : Nat => (gI σ a_16 [(13, 1)]).bind fun v_17 : Int32 => if v_17 = 0 then fX1_farther_179 N κ r36 x0 x2 x3 x4 x5_14 σ else (gR σ x4 [(11, 8)]).bind fun v_18 : Option Nat => (v_18).bind fun a_19 : Nat => (gI σ a_19 [(14, 13)]).bind fun v_20 : Int32 => if v_20 = 0 then (gR σ x4 [(11, 7)]).bind fun v_21 : Option Nat => (v_21).bind fun a_22 : Nat => (gI σ a_22 [(13, 0)]).bind fun v_23 : Int32 => (fJ18_valueOf κ σ v_23).bind fun (v_24, σ_25) => (v_24).bind fun a_26 : Nat => (isC σ_25 x3 21).bind fun u_27 : Unit => (fJ2_add κ σ_25 x3 a_26).bind fun (v_28, σ_29) => (gR σ_29 x4 [(11, 7)]).bind fun v_30 : Option Nat => (v_30).bind fun a_31 : Nat => (gI σ_29 a_31 [(13, 0)]).bind fun v_32 : Int32 => if v_32 = x2 then (gR σ_29 x0 [(0, 3)]).bind fun v_33 : Option Nat => (v_33).bind fun a_34 : Nat => (gI σ_29 a_34 [(1, 2)]).bind fun v_35 : Int32 => fX1_farther_173 N κ r36 x0 x2 x3 x4 x5_14 v_35 σ_29 else fX1_farther_173 N κ r36 x0 x2 x3 x4 x5_14 (0 : Int32) σ_29 else fX1_farther_179 N κ r36 x0 x2 x3 x4 x5_14 σ
def fX1_farther_36 (N : Nat) (κ : Nat → Nat) : Nat → Nat → Int32 → Nat → Nat → Int32 → St → Option (Int32 × St)
  | 0, _, _, _, _, _, _ => none
  | n + 1, x0, x2, x3, x4, x5, σ => (isC σ x4 11).bind fun u_36 : Unit => (fX13_goesOn σ x4).bind fun v_37 : Int32 => if v_37 = 0 then some (x5, σ) else (isC σ x4 11).bind fun u_39 : Unit => (fX13_next σ x4).bind fun σ_41 : St => (fJ18_valueOf κ σ_41 x2).bind fun (v_42, σ_43) => (v_42).bind fun a_44 : Nat => (isC σ_43 x3 21).bind fun u_45 : Unit => (fJ2_indexOf N σ_43 x3 a_44).bind fun v_46 : Int32 => (isC σ_43 x3 21).bind fun u_48 : Unit => (fJ2_size σ_43 x3).bind fun v_49 : Int32 => if v_46 < 0 then fX1_farther_105 N κ (fX1_farther_36 N κ n) x0 x2 x3 x4 x5 (0 : Int32) σ_43 else (gR σ_43 x0 [(0, 3)]).bind fun v_51 : Option Nat => (gR σ_43 x0 [(0, 3)]).bind fun v_52 : Option Nat => (gI σ_43 x4 [(11, 9)]).bind fun v_53 : Int32 => (v_52).bind fun a_54 : Nat => (isC σ_43 a_54 1).bind fun u_55 : Unit => (fX2_amount σ_43 a_54 v_53 v_49).bind fun v_56 : Int32 => (v_51).bind fun a_58 : Nat => (isC σ_43 a_58 1).bind fun u_59 : Unit => (fX2_part σ_43 a_58 v_56 v_49 v_46).bind fun v_60 : Int32 => fX1_farther_105 N κ (fX1_farther_36 N κ n) x0 x2 x3 x4 x5 v_60 σ_43
def fX1_farther (N : Nat) (κ : Nat → Nat) (σ : St) (x0 : Nat) (x1 : Nat) (x2 : Int32) : Option (Int32 × St) := (nH σ 3 (.inr (21, [.int 0, .null, .int 0]))).bind fun (q_62a, q_62s) => (gR q_62s x1 [(10, 8)]).bind fun v_63 : Option Nat => (v_63).bind fun a_64 : Nat => (fJ2_init_2 κ q_62s q_62a a_64).bind fun σ_66 : St => (nH σ_66 17 (.inr (11, [.null, .null, .null, .int 0, .int 0, .int 0, .int 0, .null, .null, .int 0, .int 0, .int 0, .int 0, .int 0, .int 0, .int 0, .null]))).bind fun (q_67a, q_67s) => (gR q_67s x0 [(0, 3)]).bind fun v_68 : Option Nat => (v_68).bind fun a_69 : Nat => (fX13_init q_67s q_67a a_69).bind fun σ_71 : St => (gR σ_71 x1 [(10, 7)]).bind fun v_72 : Option Nat => (v_72).bind fun a_73 : Nat => (isC σ_71 q_67a 11).bind fun u_74 : Unit => (fX13_begin N σ_71 q_67a x1 a_73).bind fun (v_75, σ_76) => fX1_farther_36 N κ N x0 x2 q_62a v_75 (0 : Int32) σ_76
theorem wX1_farther_179 {E : EV} {l : Launch} {p : Program} {e : Env} {s : State} {m : MethodId} {args : Array Value} {below : List Frame} {meth : Method} {c : Code} {R : Room} {res : (Int32 × St)} (hX : XK E) (hR : 7 ≤ R.frames ∧ 171 ≤ R.locals) (X : MX E p s m args meth c cX1_farther 8 (some .int) RX1 "farther") (N : Nat) (r36 : Nat → Int32 → Nat → Nat → Int32 → St → Option (Int32 × St)) (hr36 : ∀ (x0 : Nat) (x2 : Int32) (x3 : Nat) (x4 : Nat) (x5 : Int32) (σ : St) (H : Heap) (locs : List Loc) (cells slots : Nat) (ls : Array Slot), WI E R s σ H locs cells slots → lv_has ls 8 [(0, .ref x0), (2, .int x2), (3, .ref x3), (4, .ref x4), (5, .int x5)] → r36 x0 x2 x3 x4 x5 σ = some res → W p l e R s m args below meth c H locs cells slots (MQ below (Qd E R.cells R.slots (some (.int res.1)) res.2) args s R.cells R.slots (fr E)) (F0 m 36 ls [])) : ∀ (x0 : Nat) (x2 : Int32) (x3 : Nat) (x4 : Nat) (x5 : Int32) (σ : St) (H : Heap) (locs : List Loc) (cells slots : Nat) (ls : Array Slot), WI E R s σ H locs cells slots → lv_has ls 8 [(0, .ref x0), (2, .int x2), (3, .ref x3), (4, .ref x4), (5, .int x5)] → fX1_farther_179 N E.2.2.2.1 r36 x0 x2 x3 x4 x5 σ = some res → W p l e R s m args below meth c H locs cells slots (MQ below (Qd E R.cells R.slots (some (.int res.1)) res.2) args s R.cells R.slots (fr E)) (F0 m 179 ls []) := by
  intro x0 x2 x3 x4 x5 σ H locs cells slots ls I hl hf
  obtain ⟨⟨hx, hb, hml, hown, hts⟩, -⟩ := id X
  unfold fX1_farther_179 at hf
  refine lv_aload hx hb dX1_farther_179 (lv_at hl 3 rfl) ?_
  obtain ⟨v_1, ev_1, hf⟩ := ob hf
  refine g_getN hX X I gfX1_287 (gR_in ev_1) dX1_farther_181 ?_
  obtain ⟨a_2, ea_2, hga_2⟩ := ob hf
  have hla_2 := hl
  have Ia_2 := I
  subst ea_2
  have hf := hga_2
  have hl := hla_2
  have I := Ia_2
  obtain ⟨v_3, ev_3, hf⟩ := ob hf
  refine g_getN hX X I gfX1_295 (gI_in ev_3) dX1_farther_184 ?_
  refine lv_if_ne (tgt := 208) hx hb dX1_farther_187 (by decide) (fun c_187 => ?_) (fun c_187 => ?_)
  · have hf := im c_187 hf
    refine lv_goto (tgt := 36) hx hb dX1_farther_208 (by decide) ?_
    exact hr36 x0 x2 x3 x4 x5 σ _ _ _ _ _ I (lv_sub hl [0, 1, 2, 3, 4] rfl) hf
  · have hf := ip c_187 hf
    refine lv_aload_n hx hb dX1_farther_190 rfl (lv_at hl 2 rfl) ?_
    refine lv_aload hx hb dX1_farther_191 (lv_at hl 3 rfl) ?_
    obtain ⟨v_4, ev_4, hf⟩ := ob hf
    refine g_getN hX X I gfX1_287 (gR_in ev_4) dX1_farther_193 ?_
    obtain ⟨a_5, ea_5, hga_5⟩ := ob hf
    have hla_5 := hl
    have Ia_5 := I
    subst ea_5
    have hf := hga_5
    have hl := hla_5
    have I := Ia_5
    obtain ⟨v_6, ev_6, hf⟩ := ob hf
    refine g_getN hX X I gfX1_291 (gI_in ev_6) dX1_farther_196 ?_
    obtain ⟨⟨v_7, σ_8⟩, ev_7, hf⟩ := ob hf
    refine cg_S (r := (some (va_rf v_7))) (σ' := σ_8) (rs := [va_rf v_7, .ref x3]) (rest := [.ref x3]) (As := [.int v_6]) X I (mJ18_valueOf hX ev_7) lvX1_376 hdX1_376 ⟨Nat.le_trans (Nat.le_of_ble_eq_true rfl) hR.1, Nat.le_trans (Nat.le_of_ble_eq_true rfl) hR.2⟩ rfl hl.1 rfl (Nat.le_of_ble_eq_true rfl) rfl dX1_farther_199 (fun H locs cells slots I => ?_)
    obtain ⟨a_9, ea_9, hga_9⟩ := ob hf
    have hla_9 := hl
    have Ia_9 := I
    subst ea_9
    have hf := hga_9
    have hl := hla_9
    have I := Ia_9
    obtain ⟨u_10, eu_10, hf⟩ := ob hf
    obtain ⟨⟨v_11, σ_12⟩, ev_11, hf⟩ := ob hf
    refine cg_F (vw := (RJ2, TJ2, 3)) (ci := 21) (r := (some (.int v_11))) (σ' := σ_12) (rs := [.int v_11]) (rest := []) (As := [.ref a_9]) hX X I eu_10 rfl (mJ2_remove hX ev_11) lvX1_401_J2 hdX1_401_J2 ⟨Nat.le_trans (Nat.le_of_ble_eq_true rfl) hR.1, Nat.le_trans (Nat.le_of_ble_eq_true rfl) hR.2⟩ rfl hl.1 rfl (Nat.le_of_ble_eq_true rfl) rfl dX1_farther_202 (fun H locs cells slots I => ?_)
    refine lv_pop hx hb dX1_farther_207 rfl ?_
    refine lv_goto (tgt := 36) hx hb dX1_farther_208 (by decide) ?_
    exact hr36 x0 x2 x3 x4 x5 σ_12 _ _ _ _ _ I (lv_sub hl [0, 1, 2, 3, 4] rfl) hf
theorem wX1_farther_173 {E : EV} {l : Launch} {p : Program} {e : Env} {s : State} {m : MethodId} {args : Array Value} {below : List Frame} {meth : Method} {c : Code} {R : Room} {res : (Int32 × St)} (hX : XK E) (hR : 7 ≤ R.frames ∧ 171 ≤ R.locals) (X : MX E p s m args meth c cX1_farther 8 (some .int) RX1 "farther") (N : Nat) (r36 : Nat → Int32 → Nat → Nat → Int32 → St → Option (Int32 × St)) (hr36 : ∀ (x0 : Nat) (x2 : Int32) (x3 : Nat) (x4 : Nat) (x5 : Int32) (σ : St) (H : Heap) (locs : List Loc) (cells slots : Nat) (ls : Array Slot), WI E R s σ H locs cells slots → lv_has ls 8 [(0, .ref x0), (2, .int x2), (3, .ref x3), (4, .ref x4), (5, .int x5)] → r36 x0 x2 x3 x4 x5 σ = some res → W p l e R s m args below meth c H locs cells slots (MQ below (Qd E R.cells R.slots (some (.int res.1)) res.2) args s R.cells R.slots (fr E)) (F0 m 36 ls [])) : ∀ (x0 : Nat) (x2 : Int32) (x3 : Nat) (x4 : Nat) (y0 : Int32) (y1 : Int32) (σ : St) (H : Heap) (locs : List Loc) (cells slots : Nat) (ls : Array Slot), WI E R s σ H locs cells slots → lv_has ls 8 [(0, .ref x0), (2, .int x2), (3, .ref x3), (4, .ref x4)] → fX1_farther_173 N E.2.2.2.1 r36 x0 x2 x3 x4 y0 y1 σ = some res → W p l e R s m args below meth c H locs cells slots (MQ below (Qd E R.cells R.slots (some (.int res.1)) res.2) args s R.cells R.slots (fr E)) (F0 m 173 ls [.int y1, .int y0]) := by
  intro x0 x2 x3 x4 y0 y1 σ H locs cells slots ls I hl hf
  obtain ⟨⟨hx, hb, hml, hown, hts⟩, -⟩ := id X
  unfold fX1_farther_173 at hf
  refine lv_iadd hx hb dX1_farther_173 ?_
  obtain ⟨x5_13, ex5_13, hf⟩ := ol hf
  refine nm_i ex5_13 ?_
  refine lv_istore (lv' := [(5, .int x5_13), (0, .ref x0), (2, .int x2), (3, .ref x3), (4, .ref x4)]) hx hb dX1_farther_174 hl (by decide) rfl (fun ls hl => ?_)
  refine lv_goto (tgt := 208) hx hb dX1_farther_176 (by decide) ?_
  refine lv_goto (tgt := 36) hx hb dX1_farther_208 (by decide) ?_
  exact hr36 x0 x2 x3 x4 x5_13 σ _ _ _ _ _ I (lv_sub hl [1, 2, 3, 4, 0] rfl) hf
theorem wX1_farther_105 {E : EV} {l : Launch} {p : Program} {e : Env} {s : State} {m : MethodId} {args : Array Value} {below : List Frame} {meth : Method} {c : Code} {R : Room} {res : (Int32 × St)} (hX : XK E) (hR : 7 ≤ R.frames ∧ 171 ≤ R.locals) (X : MX E p s m args meth c cX1_farther 8 (some .int) RX1 "farther") (N : Nat) (r36 : Nat → Int32 → Nat → Nat → Int32 → St → Option (Int32 × St)) (hr36 : ∀ (x0 : Nat) (x2 : Int32) (x3 : Nat) (x4 : Nat) (x5 : Int32) (σ : St) (H : Heap) (locs : List Loc) (cells slots : Nat) (ls : Array Slot), WI E R s σ H locs cells slots → lv_has ls 8 [(0, .ref x0), (2, .int x2), (3, .ref x3), (4, .ref x4), (5, .int x5)] → r36 x0 x2 x3 x4 x5 σ = some res → W p l e R s m args below meth c H locs cells slots (MQ below (Qd E R.cells R.slots (some (.int res.1)) res.2) args s R.cells R.slots (fr E)) (F0 m 36 ls [])) : ∀ (x0 : Nat) (x2 : Int32) (x3 : Nat) (x4 : Nat) (y0 : Int32) (y1 : Int32) (σ : St) (H : Heap) (locs : List Loc) (cells slots : Nat) (ls : Array Slot), WI E R s σ H locs cells slots → lv_has ls 8 [(0, .ref x0), (2, .int x2), (3, .ref x3), (4, .ref x4)] → fX1_farther_105 N E.2.2.2.1 r36 x0 x2 x3 x4 y0 y1 σ = some res → W p l e R s m args below meth c H locs cells slots (MQ below (Qd E R.cells R.slots (some (.int res.1)) res.2) args s R.cells R.slots (fr E)) (F0 m 105 ls [.int y1, .int y0]) := by
  intro x0 x2 x3 x4 y0 y1 σ H locs cells slots ls I hl hf
  obtain ⟨⟨hx, hb, hml, hown, hts⟩, -⟩ := id X
  unfold fX1_farther_105 at hf
  refine lv_iadd hx hb dX1_farther_105 ?_
  obtain ⟨x5_14, ex5_14, hf⟩ := ol hf
  refine nm_i ex5_14 ?_
  refine lv_istore (lv' := [(5, .int x5_14), (0, .ref x0), (2, .int x2), (3, .ref x3), (4, .ref x4)]) hx hb dX1_farther_106 hl (by decide) rfl (fun ls hl => ?_)
  refine lv_aload hx hb dX1_farther_108 (lv_at hl 4 rfl) ?_
  obtain ⟨v_15, ev_15, hf⟩ := ob hf
  refine g_getN hX X I gfX1_287 (gR_in ev_15) dX1_farther_110 ?_
  obtain ⟨a_16, ea_16, hga_16⟩ := ob hf
  have hla_16 := hl
  have Ia_16 := I
  subst ea_16
  have hf := hga_16
  have hl := hla_16
  have I := Ia_16
  obtain ⟨v_17, ev_17, hf⟩ := ob hf
  refine g_getN hX X I gfX1_295 (gI_in ev_17) dX1_farther_113 ?_
  refine lv_if_eq (tgt := 179) hx hb dX1_farther_116 (by decide) (fun c_116 => ?_) (fun c_116 => ?_)
  · have hf := ip c_116 hf
    exact wX1_farther_179 hX hR X N r36 hr36 x0 x2 x3 x4 x5_14 σ _ _ _ _ _ I (lv_sub hl [1, 2, 3, 4, 0] rfl) hf
  · have hf := im c_116 hf
    refine lv_aload hx hb dX1_farther_119 (lv_at hl 4 rfl) ?_
    obtain ⟨v_18, ev_18, hf⟩ := ob hf
    refine g_getN hX X I gfX1_395 (gR_in ev_18) dX1_farther_121 ?_
    obtain ⟨a_19, ea_19, hga_19⟩ := ob hf
    have hla_19 := hl
    have Ia_19 := I
    subst ea_19
    have hf := hga_19
    have hl := hla_19
    have I := Ia_19
    obtain ⟨v_20, ev_20, hf⟩ := ob hf
    refine g_getN hX X I gfX1_345 (gI_in ev_20) dX1_farther_124 ?_
    refine lv_if_ne (tgt := 179) hx hb dX1_farther_127 (by decide) (fun c_127 => ?_) (fun c_127 => ?_)
    · have hf := im c_127 hf
      exact wX1_farther_179 hX hR X N r36 hr36 x0 x2 x3 x4 x5_14 σ _ _ _ _ _ I (lv_sub hl [1, 2, 3, 4, 0] rfl) hf
    · have hf := ip c_127 hf
      refine lv_aload_n hx hb dX1_farther_130 rfl (lv_at hl 3 rfl) ?_
      refine lv_aload hx hb dX1_farther_131 (lv_at hl 4 rfl) ?_
      obtain ⟨v_21, ev_21, hf⟩ := ob hf
      refine g_getN hX X I gfX1_287 (gR_in ev_21) dX1_farther_133 ?_
      obtain ⟨a_22, ea_22, hga_22⟩ := ob hf
      have hla_22 := hl
      have Ia_22 := I
      subst ea_22
      have hf := hga_22
      have hl := hla_22
      have I := Ia_22
      obtain ⟨v_23, ev_23, hf⟩ := ob hf
      refine g_getN hX X I gfX1_291 (gI_in ev_23) dX1_farther_136 ?_
      obtain ⟨⟨v_24, σ_25⟩, ev_24, hf⟩ := ob hf
      refine cg_S (r := (some (va_rf v_24))) (σ' := σ_25) (rs := [va_rf v_24, .ref x3]) (rest := [.ref x3]) (As := [.int v_23]) X I (mJ18_valueOf hX ev_24) lvX1_376 hdX1_376 ⟨Nat.le_trans (Nat.le_of_ble_eq_true rfl) hR.1, Nat.le_trans (Nat.le_of_ble_eq_true rfl) hR.2⟩ rfl hl.1 rfl (Nat.le_of_ble_eq_true rfl) rfl dX1_farther_139 (fun H locs cells slots I => ?_)
      obtain ⟨a_26, ea_26, hga_26⟩ := ob hf
      have hla_26 := hl
      have Ia_26 := I
      subst ea_26
      have hf := hga_26
      have hl := hla_26
      have I := Ia_26
      obtain ⟨u_27, eu_27, hf⟩ := ob hf
      obtain ⟨⟨v_28, σ_29⟩, ev_28, hf⟩ := ob hf
      refine cg_F (vw := (RJ2, TJ2, 3)) (ci := 21) (r := (some (.int v_28))) (σ' := σ_29) (rs := [.int v_28]) (rest := []) (As := [.ref a_26]) hX X I eu_27 rfl (mJ2_add hX ev_28) lvX1_398_J2 hdX1_398_J2 ⟨Nat.le_trans (Nat.le_of_ble_eq_true rfl) hR.1, Nat.le_trans (Nat.le_of_ble_eq_true rfl) hR.2⟩ rfl hl.1 rfl (Nat.le_of_ble_eq_true rfl) rfl dX1_farther_142 (fun H locs cells slots I => ?_)
      refine lv_pop hx hb dX1_farther_147 rfl ?_
      refine lv_iload hx hb dX1_farther_148 (lv_at hl 0 rfl) ?_
      refine lv_aload hx hb dX1_farther_150 (lv_at hl 4 rfl) ?_
      obtain ⟨v_30, ev_30, hf⟩ := ob hf
      refine g_getN hX X I gfX1_287 (gR_in ev_30) dX1_farther_152 ?_
      obtain ⟨a_31, ea_31, hga_31⟩ := ob hf
      have hla_31 := hl
      have Ia_31 := I
      subst ea_31
      have hf := hga_31
      have hl := hla_31
      have I := Ia_31
      obtain ⟨v_32, ev_32, hf⟩ := ob hf
      refine g_getN hX X I gfX1_291 (gI_in ev_32) dX1_farther_155 ?_
      refine lv_iload_n hx hb dX1_farther_158 rfl (lv_at hl 2 rfl) ?_
      refine lv_icmp_ne (tgt := 172) hx hb dX1_farther_159 (by decide) (fun c_159 => ?_) (fun c_159 => ?_)
      · have hf := im c_159 hf
        refine lv_iconst (v := 0) hx hb dX1_farther_172 (by decide) ?_
        exact wX1_farther_173 hX hR X N r36 hr36 x0 x2 x3 x4 x5_14 (0 : Int32) σ_29 _ _ _ _ _ I (lv_sub hl [1, 2, 3, 4] rfl) hf
      · have hf := ip c_159 hf
        refine lv_aload_n hx hb dX1_farther_162 rfl (lv_at hl 1 rfl) ?_
        obtain ⟨v_33, ev_33, hf⟩ := ob hf
        refine g_get X I gfX1_87 (gR_in ev_33) dX1_farther_163 ?_
        obtain ⟨a_34, ea_34, hga_34⟩ := ob hf
        have hla_34 := hl
        have Ia_34 := I
        subst ea_34
        have hf := hga_34
        have hl := hla_34
        have I := Ia_34
        obtain ⟨v_35, ev_35, hf⟩ := ob hf
        refine g_getN hX X I gfX1_219 (gI_in ev_35) dX1_farther_166 ?_
        refine lv_goto (tgt := 173) hx hb dX1_farther_169 (by decide) ?_
        exact wX1_farther_173 hX hR X N r36 hr36 x0 x2 x3 x4 x5_14 v_35 σ_29 _ _ _ _ _ I (lv_sub hl [1, 2, 3, 4] rfl) hf
theorem wX1_farther_36 {E : EV} {l : Launch} {p : Program} {e : Env} {s : State} {m : MethodId} {args : Array Value} {below : List Frame} {meth : Method} {c : Code} {R : Room} {res : (Int32 × St)} (hX : XK E) (hR : 7 ≤ R.frames ∧ 171 ≤ R.locals) (X : MX E p s m args meth c cX1_farther 8 (some .int) RX1 "farther") (N : Nat) : ∀ (n : Nat) (x0 : Nat) (x2 : Int32) (x3 : Nat) (x4 : Nat) (x5 : Int32) (σ : St) (H : Heap) (locs : List Loc) (cells slots : Nat) (ls : Array Slot), WI E R s σ H locs cells slots → lv_has ls 8 [(0, .ref x0), (2, .int x2), (3, .ref x3), (4, .ref x4), (5, .int x5)] → fX1_farther_36 N E.2.2.2.1 n x0 x2 x3 x4 x5 σ = some res → W p l e R s m args below meth c H locs cells slots (MQ below (Qd E R.cells R.slots (some (.int res.1)) res.2) args s R.cells R.slots (fr E)) (F0 m 36 ls []) := by
  intro n
  induction n with
  | zero => intro x0 x2 x3 x4 x5 σ H locs cells slots ls I hl hf; exact nomatch (show none = some res from hf)
  | succ n ih =>
    intro x0 x2 x3 x4 x5 σ H locs cells slots ls I hl hf
    obtain ⟨⟨hx, hb, hml, hown, hts⟩, -⟩ := id X
    rw [fX1_farther_36.eq_2] at hf
    refine lv_aload hx hb dX1_farther_36 (lv_at hl 3 rfl) ?_
    obtain ⟨u_36, eu_36, hf⟩ := ob hf
    obtain ⟨v_37, ev_37, hf⟩ := ob hf
    refine cg_V (vw := (RX13, TX13, 17)) (ci := 11) (r := (some (.int v_37))) (σ' := σ) (rs := [.int v_37]) (rest := []) (As := []) X I eu_36 rfl (mX13_goesOn hX ev_37) lvX1_373 hdX1_373 ⟨Nat.le_trans (Nat.le_of_ble_eq_true rfl) hR.1, Nat.le_trans (Nat.le_of_ble_eq_true rfl) hR.2⟩ rfl hl.1 rfl (Nat.le_of_ble_eq_true rfl) rfl dX1_farther_38 (fun H locs cells slots I => ?_)
    refine lv_if_eq (tgt := 211) hx hb dX1_farther_41 (by decide) (fun c_41 => ?_) (fun c_41 => ?_)
    · have hf := ip c_41 hf
      refine lv_iload hx hb dX1_farther_211 (lv_at hl 4 rfl) ?_
      cases os hf
      exact r_iret X I dX1_farther_213
    · have hf := im c_41 hf
      refine lv_aload hx hb dX1_farther_44 (lv_at hl 3 rfl) ?_
      obtain ⟨u_39, eu_39, hf⟩ := ob hf
      obtain ⟨σ_41, ev_40, hf⟩ := ob hf
      refine cg_V (vw := (RX13, TX13, 17)) (ci := 11) (r := none) (σ' := σ_41) (rs := []) (rest := []) (As := []) X I eu_39 rfl (mX13_next hX ev_40) lvX1_282 hdX1_282 ⟨Nat.le_trans (Nat.le_of_ble_eq_true rfl) hR.1, Nat.le_trans (Nat.le_of_ble_eq_true rfl) hR.2⟩ rfl hl.1 rfl (Nat.le_of_ble_eq_true rfl) rfl dX1_farther_46 (fun H locs cells slots I => ?_)
      refine lv_aload_n hx hb dX1_farther_49 rfl (lv_at hl 2 rfl) ?_
      refine lv_iload_n hx hb dX1_farther_50 rfl (lv_at hl 1 rfl) ?_
      obtain ⟨⟨v_42, σ_43⟩, ev_42, hf⟩ := ob hf
      refine cg_S (r := (some (va_rf v_42))) (σ' := σ_43) (rs := [va_rf v_42, .ref x3]) (rest := [.ref x3]) (As := [.int x2]) X I (mJ18_valueOf hX ev_42) lvX1_376 hdX1_376 ⟨Nat.le_trans (Nat.le_of_ble_eq_true rfl) hR.1, Nat.le_trans (Nat.le_of_ble_eq_true rfl) hR.2⟩ rfl hl.1 rfl (Nat.le_of_ble_eq_true rfl) rfl dX1_farther_51 (fun H locs cells slots I => ?_)
      obtain ⟨a_44, ea_44, hga_44⟩ := ob hf
      have hla_44 := hl
      have Ia_44 := I
      subst ea_44
      have hf := hga_44
      have hl := hla_44
      have I := Ia_44
      obtain ⟨u_45, eu_45, hf⟩ := ob hf
      obtain ⟨v_46, ev_46, hf⟩ := ob hf
      refine cg_F (vw := (RJ2, TJ2, 3)) (ci := 21) (r := (some (.int v_46))) (σ' := σ_43) (rs := [.int v_46]) (rest := []) (As := [.ref a_44]) hX X I eu_45 rfl (mJ2_indexOf hX ev_46) lvX1_382_J2 hdX1_382_J2 ⟨Nat.le_trans (Nat.le_of_ble_eq_true rfl) hR.1, Nat.le_trans (Nat.le_of_ble_eq_true rfl) hR.2⟩ rfl hl.1 rfl (Nat.le_of_ble_eq_true rfl) rfl dX1_farther_54 (fun H locs cells slots I => ?_)
      refine lv_istore (lv' := [(6, .int v_46), (0, .ref x0), (2, .int x2), (3, .ref x3), (4, .ref x4), (5, .int x5)]) hx hb dX1_farther_59 hl (by decide) rfl (fun ls hl => ?_)
      refine lv_aload_n hx hb dX1_farther_61 rfl (lv_at hl 3 rfl) ?_
      obtain ⟨u_48, eu_48, hf⟩ := ob hf
      obtain ⟨v_49, ev_49, hf⟩ := ob hf
      refine cg_F (vw := (RJ2, TJ2, 3)) (ci := 21) (r := (some (.int v_49))) (σ' := σ_43) (rs := [.int v_49]) (rest := []) (As := []) hX X I eu_48 rfl (mJ2_size hX ev_49) lvX1_137_J2 hdX1_137_J2 ⟨Nat.le_trans (Nat.le_of_ble_eq_true rfl) hR.1, Nat.le_trans (Nat.le_of_ble_eq_true rfl) hR.2⟩ rfl hl.1 rfl (Nat.le_of_ble_eq_true rfl) rfl dX1_farther_62 (fun H locs cells slots I => ?_)
      refine lv_istore (lv' := [(7, .int v_49), (6, .int v_46), (0, .ref x0), (2, .int x2), (3, .ref x3), (4, .ref x4), (5, .int x5)]) hx hb dX1_farther_67 hl (by decide) rfl (fun ls hl => ?_)
      refine lv_iload hx hb dX1_farther_69 (lv_at hl 6 rfl) ?_
      refine lv_iload hx hb dX1_farther_71 (lv_at hl 1 rfl) ?_
      refine lv_if_lt (tgt := 104) hx hb dX1_farther_73 (by decide) (fun c_73 => ?_) (fun c_73 => ?_)
      · have hf := ip c_73 hf
        refine lv_iconst (v := 0) hx hb dX1_farther_104 (by decide) ?_
        exact wX1_farther_105 hX hR X N (fX1_farther_36 N E.2.2.2.1 n) ih x0 x2 x3 x4 x5 (0 : Int32) σ_43 _ _ _ _ _ I (lv_sub hl [2, 3, 4, 5] rfl) hf
      · have hf := im c_73 hf
        refine lv_aload_n hx hb dX1_farther_76 rfl (lv_at hl 2 rfl) ?_
        obtain ⟨v_51, ev_51, hf⟩ := ob hf
        refine g_get X I gfX1_87 (gR_in ev_51) dX1_farther_77 ?_
        refine lv_aload_n hx hb dX1_farther_80 rfl (lv_at hl 2 rfl) ?_
        obtain ⟨v_52, ev_52, hf⟩ := ob hf
        refine g_get X I gfX1_87 (gR_in ev_52) dX1_farther_81 ?_
        refine lv_aload hx hb dX1_farther_84 (lv_at hl 5 rfl) ?_
        obtain ⟨v_53, ev_53, hf⟩ := ob hf
        refine g_getN hX X I gfX1_386 (gI_in ev_53) dX1_farther_86 ?_
        refine lv_iload hx hb dX1_farther_89 (lv_at hl 0 rfl) ?_
        obtain ⟨a_54, ea_54, hga_54⟩ := ob hf
        have hla_54 := hl
        have Ia_54 := I
        subst ea_54
        have hf := hga_54
        have hl := hla_54
        have I := Ia_54
        obtain ⟨u_55, eu_55, hf⟩ := ob hf
        obtain ⟨v_56, ev_56, hf⟩ := ob hf
        refine cg_V (vw := (RX2, TX2, 7)) (ci := 1) (r := (some (.int v_56))) (σ' := σ_43) (rs := [.int v_56, va_rf v_51, .int x5]) (rest := [va_rf v_51, .int x5]) (As := [.int v_53, .int v_49]) X I eu_55 rfl (mX2_amount hX ev_56) lvX1_388 hdX1_388 ⟨Nat.le_trans (Nat.le_of_ble_eq_true rfl) hR.1, Nat.le_trans (Nat.le_of_ble_eq_true rfl) hR.2⟩ rfl hl.1 rfl (by rcases v_51 with _ | _ <;> exact (Nat.le_of_ble_eq_true rfl)) rfl dX1_farther_91 (fun H locs cells slots I => ?_)
        refine lv_iload hx hb dX1_farther_94 (lv_at hl 0 rfl) ?_
        refine lv_iload hx hb dX1_farther_96 (lv_at hl 1 rfl) ?_
        obtain ⟨a_58, ea_58, hga_58⟩ := ob hf
        have hla_58 := hl
        have Ia_58 := I
        subst ea_58
        have hf := hga_58
        have hl := hla_58
        have I := Ia_58
        obtain ⟨u_59, eu_59, hf⟩ := ob hf
        obtain ⟨v_60, ev_60, hf⟩ := ob hf
        refine cg_V (vw := (RX2, TX2, 7)) (ci := 1) (r := (some (.int v_60))) (σ' := σ_43) (rs := [.int v_60, .int x5]) (rest := [.int x5]) (As := [.int v_56, .int v_49, .int v_46]) X I eu_59 rfl (mX2_part hX ev_60) lvX1_392 hdX1_392 ⟨Nat.le_trans (Nat.le_of_ble_eq_true rfl) hR.1, Nat.le_trans (Nat.le_of_ble_eq_true rfl) hR.2⟩ rfl hl.1 rfl (Nat.le_of_ble_eq_true rfl) rfl dX1_farther_98 (fun H locs cells slots I => ?_)
        refine lv_goto (tgt := 105) hx hb dX1_farther_101 (by decide) ?_
        exact wX1_farther_105 hX hR X N (fX1_farther_36 N E.2.2.2.1 n) ih x0 x2 x3 x4 x5 v_60 σ_43 _ _ _ _ _ I (lv_sub hl [2, 3, 4, 5] rfl) hf
theorem wX1_farther_0 {E : EV} {l : Launch} {p : Program} {e : Env} {s : State} {m : MethodId} {args : Array Value} {below : List Frame} {meth : Method} {c : Code} {R : Room} {res : (Int32 × St)} (hX : XK E) (hR : 7 ≤ R.frames ∧ 171 ≤ R.locals) (X : MX E p s m args meth c cX1_farther 8 (some .int) RX1 "farther") (N : Nat) : ∀ (x0 : Nat) (x1 : Nat) (x2 : Int32) (σ : St) (H : Heap) (locs : List Loc) (cells slots : Nat) (ls : Array Slot), WI E R s σ H locs cells slots → lv_has ls 8 [(0, .ref x0), (1, .ref x1), (2, .int x2)] → fX1_farther N E.2.2.2.1 σ x0 x1 x2 = some res → W p l e R s m args below meth c H locs cells slots (MQ below (Qd E R.cells R.slots (some (.int res.1)) res.2) args s R.cells R.slots (fr E)) (F0 m 0 ls []) := by
  intro x0 x1 x2 σ H locs cells slots ls I hl hf
  obtain ⟨⟨hx, hb, hml, hown, hts⟩, -⟩ := id X
  unfold fX1_farther at hf
  obtain ⟨⟨q_62a, q_62s⟩, eq_62, hf⟩ := ob hf
  refine g_new X I noX1_368 eq_62 dX1_farther_0 (fun H locs cells slots I => ?_)
  refine lv_dup hx hb dX1_farther_3 rfl ?_
  refine lv_aload_n hx hb dX1_farther_4 rfl (lv_at hl 1 rfl) ?_
  obtain ⟨v_63, ev_63, hf⟩ := ob hf
  refine g_getN hX X I gfX1_261 (gR_in ev_63) dX1_farther_5 ?_
  obtain ⟨a_64, ea_64, hga_64⟩ := ob hf
  have hla_64 := hl
  have Ia_64 := I
  subst ea_64
  have hf := hga_64
  have hl := hla_64
  have I := Ia_64
  obtain ⟨σ_66, ev_65, hf⟩ := ob hf
  refine cm_I (σ' := σ_66) (rs := [.ref q_62a]) (rest := [.ref q_62a]) (As := [.ref a_64]) X I (mJ2_init_2 hX ev_65) lvX1_370 hdX1_370 ⟨Nat.le_trans (Nat.le_of_ble_eq_true rfl) hR.1, Nat.le_trans (Nat.le_of_ble_eq_true rfl) hR.2⟩ rfl hl.1 rfl (Nat.le_of_ble_eq_true rfl) rfl dX1_farther_8 (fun H locs cells slots I => ?_)
  refine lv_astore_n (lv' := [(3, .ref q_62a), (0, .ref x0), (1, .ref x1), (2, .int x2)]) hx hb dX1_farther_11 rfl hl (by decide) rfl (fun ls hl => ?_)
  obtain ⟨⟨q_67a, q_67s⟩, eq_67, hf⟩ := ob hf
  refine g_new X I noX1_274 eq_67 dX1_farther_12 (fun H locs cells slots I => ?_)
  refine lv_dup hx hb dX1_farther_15 rfl ?_
  refine lv_aload_n hx hb dX1_farther_16 rfl (lv_at hl 1 rfl) ?_
  obtain ⟨v_68, ev_68, hf⟩ := ob hf
  refine g_get X I gfX1_87 (gR_in ev_68) dX1_farther_17 ?_
  obtain ⟨a_69, ea_69, hga_69⟩ := ob hf
  have hla_69 := hl
  have Ia_69 := I
  subst ea_69
  have hf := hga_69
  have hl := hla_69
  have I := Ia_69
  obtain ⟨σ_71, ev_70, hf⟩ := ob hf
  refine cm_I (σ' := σ_71) (rs := [.ref q_67a]) (rest := [.ref q_67a]) (As := [.ref a_69]) X I (mX13_init hX ev_70) lvX1_276 hdX1_276 ⟨Nat.le_trans (Nat.le_of_ble_eq_true rfl) hR.1, Nat.le_trans (Nat.le_of_ble_eq_true rfl) hR.2⟩ rfl hl.1 rfl (Nat.le_of_ble_eq_true rfl) rfl dX1_farther_20 (fun H locs cells slots I => ?_)
  refine lv_aload_n hx hb dX1_farther_23 rfl (lv_at hl 2 rfl) ?_
  refine lv_aload_n hx hb dX1_farther_24 rfl (lv_at hl 2 rfl) ?_
  obtain ⟨v_72, ev_72, hf⟩ := ob hf
  refine g_getN hX X I gfX1_203 (gR_in ev_72) dX1_farther_25 ?_
  obtain ⟨a_73, ea_73, hga_73⟩ := ob hf
  have hla_73 := hl
  have Ia_73 := I
  subst ea_73
  have hf := hga_73
  have hl := hla_73
  have I := Ia_73
  obtain ⟨u_74, eu_74, hf⟩ := ob hf
  obtain ⟨⟨v_75, σ_76⟩, ev_75, hf⟩ := ob hf
  refine cg_V (vw := (RX13, TX13, 17)) (ci := 11) (r := (some (.ref v_75))) (σ' := σ_76) (rs := [.ref v_75]) (rest := []) (As := [.ref x1, .ref a_73]) X I eu_74 rfl (mX13_begin hX ev_75) lvX1_279 hdX1_279 ⟨Nat.le_trans (Nat.le_of_ble_eq_true rfl) hR.1, Nat.le_trans (Nat.le_of_ble_eq_true rfl) hR.2⟩ rfl hl.1 rfl (Nat.le_of_ble_eq_true rfl) rfl dX1_farther_28 (fun H locs cells slots I => ?_)
  refine lv_astore (lv' := [(4, .ref v_75), (3, .ref q_62a), (0, .ref x0), (1, .ref x1), (2, .int x2)]) hx hb dX1_farther_31 hl (by decide) rfl (fun ls hl => ?_)
  refine lv_iconst (v := 0) hx hb dX1_farther_33 (by decide) ?_
  refine lv_istore (lv' := [(5, .int (0 : Int32)), (4, .ref v_75), (3, .ref q_62a), (0, .ref x0), (1, .ref x1), (2, .int x2)]) hx hb dX1_farther_34 hl (by decide) rfl (fun ls hl => ?_)
  exact wX1_farther_36 hX hR X N N x0 x2 q_62a v_75 (0 : Int32) σ_76 _ _ _ _ _ I (lv_sub hl [3, 5, 2, 1, 0] rfl) hf
theorem mX1_farther {E : EV} {l : Launch} {N : Nat} {σ : St} {x0 : Nat} {x1 : Nat} {x2 : Int32} {res : (Int32 × St)} (hX : XK E) (hf : fX1_farther N E.2.2.2.1 σ x0 x1 x2 = some res) : CM E l yX1_farther (ws_ yX1_farther cX1_farther 8 (some .int)) 7 171 [.ref x0, .ref x1, .int x2] σ (some (.int res.1)) res.2 := by
  refine CM.of hX.1 (by decide) rfl rfl (Nat.le_of_ble_eq_true rfl) ?_
  intro p e s m below meth c X I ls hl
  exact wX1_farther_0 hX ⟨Nat.le_refl _, Nat.le_refl _⟩ X N _ _ _ _ _ _ _ _ _ I hl hf
/-! SharedTaxis.fare(I)I imp=True fuel=True kap=True rt=I thr=True -/
theorem lvX1_404 : GoodIn lw_all (wsV RX1 404 RX1 yX1_farther (ws_ yX1_farther cX1_farther 8 (some .int))) := lw_V q1899 q1901 qs26 q113 q1902
theorem hdX1_404 : yX1_farther.cls = RX1 ∧ yX1_farther.cls ≠ "java/lang/invoke/MethodHandle" ∧ yX1_farther.cls ≠ "java/lang/invoke/VarHandle" ∧ (parseMethodDescriptor yX1_farther.desc).map (fun d => d.parameters.length) = some 2 := by decide +kernel
def fX1_fare_31 (N : Nat) (κ : Nat → Nat) (x0 : Nat) (x1 : Int32) (x2 : Nat) (σ : St) : Option ((Int32 ⊕ Nat) × St) := (gI σ x2 [(14, 12)]).bind fun v_1 : Int32 => (gR σ x0 [(0, 3)]).bind fun v_2 : Option Nat => (v_2).bind fun a_3 : Nat => (gR σ a_3 [(1, 5)]).bind fun v_4 : Option Nat => (gI σ x2 [(14, 9)]).bind fun v_5 : Int32 => (v_4).bind fun a_6 : Nat => (isC σ a_6 21).bind fun u_7 : Unit => (fJ2_get σ a_6 v_5).bind fun v_8 : Option Nat => (v_8).bind fun a_10 : Nat => (isC σ a_10 10).bind fun u_11 : Unit => (isC σ x0 0).bind fun u_12 : Unit => (fX1_farther N κ σ x0 a_10 x1).bind fun (v_13, σ_14) => some (.inl (v_1 + v_13), σ_14)
def fX1_fare (N : Nat) (κ : Nat → Nat) (σ : St) (x0 : Nat) (x1 : Int32) : Option ((Int32 ⊕ Nat) × St) := (isC σ x0 0).bind fun u_15 : Unit => (fX1_rideAt σ x0 x1).bind fun (v_16, σ_17) => se v_16 (fun v_18 => (gI σ_17 v_18 [(14, 13)]).bind fun v_20 : Int32 => if v_20 = 0 then (gI σ_17 v_18 [(14, 8)]).bind fun v_21 : Int32 => if v_21 = (1 : Int32) then fX1_fare_31 N κ x0 x1 v_18 σ_17 else (gI σ_17 v_18 [(14, 8)]).bind fun v_22 : Int32 => if v_22 = (2 : Int32) then fX1_fare_31 N κ x0 x1 v_18 σ_17 else some (.inl (-1 : Int32), σ_17) else some (.inl (-1 : Int32), σ_17)) (fun q_19 => (isX σ_17 q_19).bind fun uq_19 : Unit => some (.inr q_19, σ_17))
theorem wX1_fare_31 {E : EV} {l : Launch} {p : Program} {e : Env} {s : State} {m : MethodId} {args : Array Value} {below : List Frame} {meth : Method} {c : Code} {R : Room} {res : ((Int32 ⊕ Nat) × St)} (hX : XK E) (hR : 8 ≤ R.frames ∧ 198 ≤ R.locals) (X : MX E p s m args meth c cX1_fare 3 (some .int) RX1 "fare") (XH : MH c []) (hS : l.stackTraces = false) (N : Nat) : ∀ (x0 : Nat) (x1 : Int32) (x2 : Nat) (σ : St) (H : Heap) (locs : List Loc) (cells slots : Nat) (ls : Array Slot), WI E R s σ H locs cells slots → lv_has ls 3 [(0, .ref x0), (1, .int x1), (2, .ref x2)] → fX1_fare_31 N E.2.2.2.1 x0 x1 x2 σ = some res → W p l e R s m args below meth c H locs cells slots (vx_MQ below (QS E R.cells R.slots (sv (fun v => (some (.int v))) res.1) res.2) (XS E R.cells R.slots (sx res.1) res.2) args s R.cells R.slots (fr E)) (F0 m 31 ls []) := by
  intro x0 x1 x2 σ H locs cells slots ls I hl hf
  obtain ⟨⟨hx, hb, hml, hown, hts⟩, -⟩ := id X
  unfold fX1_fare_31 at hf
  refine lv_aload_n hx hb dX1_fare_31 rfl (lv_at hl 2 rfl) ?_
  obtain ⟨v_1, ev_1, hf⟩ := ob hf
  refine g_getN hX X I gfX1_342 (gI_in ev_1) dX1_fare_32 ?_
  refine lv_aload_n hx hb dX1_fare_35 rfl (lv_at hl 0 rfl) ?_
  refine lv_aload_n hx hb dX1_fare_36 rfl (lv_at hl 0 rfl) ?_
  obtain ⟨v_2, ev_2, hf⟩ := ob hf
  refine g_get X I gfX1_87 (gR_in ev_2) dX1_fare_37 ?_
  obtain ⟨a_3, ea_3, hga_3⟩ := ob hf
  have hla_3 := hl
  have Ia_3 := I
  subst ea_3
  have hf := hga_3
  have hl := hla_3
  have I := Ia_3
  obtain ⟨v_4, ev_4, hf⟩ := ob hf
  refine g_getN hX X I gfX1_133 (gR_in ev_4) dX1_fare_40 ?_
  refine lv_aload_n hx hb dX1_fare_43 rfl (lv_at hl 2 rfl) ?_
  obtain ⟨v_5, ev_5, hf⟩ := ob hf
  refine g_getN hX X I gfX1_334 (gI_in ev_5) dX1_fare_44 ?_
  obtain ⟨a_6, ea_6, hga_6⟩ := ob hf
  have hla_6 := hl
  have Ia_6 := I
  subst ea_6
  have hf := hga_6
  have hl := hla_6
  have I := Ia_6
  obtain ⟨u_7, eu_7, hf⟩ := ob hf
  obtain ⟨v_8, ev_8, hf⟩ := ob hf
  refine cg_F (vw := (RJ2, TJ2, 3)) (ci := 21) (r := (some (va_rf v_8))) (σ' := σ) (rs := [va_rf v_8, .ref x0, .int v_1]) (rest := [.ref x0, .int v_1]) (As := [.int v_5]) hX X I eu_7 rfl (mJ2_get hX ev_8) lvX1_140_J2 hdX1_140_J2 ⟨Nat.le_trans (Nat.le_of_ble_eq_true rfl) hR.1, Nat.le_trans (Nat.le_of_ble_eq_true rfl) hR.2⟩ rfl hl.1 rfl (Nat.le_of_ble_eq_true rfl) rfl dX1_fare_47 (fun H locs cells slots I => ?_)
  obtain ⟨a_10, ea_10, hga_10⟩ := ob hf
  have hla_10 := hl
  have Ia_10 := I
  subst ea_10
  have hf := hga_10
  have hl := hla_10
  have I := Ia_10
  obtain ⟨u_11, eu_11, hf⟩ := ob hf
  refine g_cast (vw := (RX12, TX12, 15)) X I rfl q805 eu_11 dX1_fare_52 ?_
  refine lv_iload_n hx hb dX1_fare_55 rfl (lv_at hl 1 rfl) ?_
  obtain ⟨u_12, eu_12, hf⟩ := ob hf
  obtain ⟨⟨v_13, σ_14⟩, ev_13, hf⟩ := ob hf
  refine cg_V (vw := (RX1, TX1, 7)) (ci := 0) (r := (some (.int v_13))) (σ' := σ_14) (rs := [.int v_13, .int v_1]) (rest := [.int v_1]) (As := [.ref a_10, .int x1]) X I eu_12 rfl (mX1_farther hX ev_13) lvX1_404 hdX1_404 ⟨Nat.le_trans (Nat.le_of_ble_eq_true rfl) hR.1, Nat.le_trans (Nat.le_of_ble_eq_true rfl) hR.2⟩ rfl hl.1 rfl (Nat.le_of_ble_eq_true rfl) rfl dX1_fare_56 (fun H locs cells slots I => ?_)
  refine lv_iadd hx hb dX1_fare_59 ?_
  cases os hf
  exact x_ret (r_iret X I dX1_fare_60)
theorem wX1_fare_0 {E : EV} {l : Launch} {p : Program} {e : Env} {s : State} {m : MethodId} {args : Array Value} {below : List Frame} {meth : Method} {c : Code} {R : Room} {res : ((Int32 ⊕ Nat) × St)} (hX : XK E) (hR : 8 ≤ R.frames ∧ 198 ≤ R.locals) (X : MX E p s m args meth c cX1_fare 3 (some .int) RX1 "fare") (XH : MH c []) (hS : l.stackTraces = false) (N : Nat) : ∀ (x0 : Nat) (x1 : Int32) (σ : St) (H : Heap) (locs : List Loc) (cells slots : Nat) (ls : Array Slot), WI E R s σ H locs cells slots → lv_has ls 3 [(0, .ref x0), (1, .int x1)] → fX1_fare N E.2.2.2.1 σ x0 x1 = some res → W p l e R s m args below meth c H locs cells slots (vx_MQ below (QS E R.cells R.slots (sv (fun v => (some (.int v))) res.1) res.2) (XS E R.cells R.slots (sx res.1) res.2) args s R.cells R.slots (fr E)) (F0 m 0 ls []) := by
  intro x0 x1 σ H locs cells slots ls I hl hf
  obtain ⟨⟨hx, hb, hml, hown, hts⟩, -⟩ := id X
  unfold fX1_fare at hf
  refine lv_aload_n hx hb dX1_fare_0 rfl (lv_at hl 0 rfl) ?_
  refine lv_iload_n hx hb dX1_fare_1 rfl (lv_at hl 1 rfl) ?_
  obtain ⟨u_15, eu_15, hf⟩ := ob hf
  obtain ⟨⟨v_16, σ_17⟩, ev_16, hf⟩ := ob hf
  have hgv_16 := hf
  rcases v_16 with v_18 | q_19
  · have hf := se_l hgv_16
    refine cx_ret (r := (some (.ref v_18))) (rs := [.ref v_18]) I (xr_V (vw := (RX1, TX1, 7)) (ci := 0) (σ' := σ_17) (rest := []) (As := [.int x1]) X I eu_15 rfl (mX1_rideAt hX hS ev_16) lvX1_309 hdX1_309 ⟨Nat.le_trans (Nat.le_of_ble_eq_true rfl) hR.1, Nat.le_trans (Nat.le_of_ble_eq_true rfl) hR.2⟩ rfl hl.1 rfl (Nat.le_of_ble_eq_true rfl) dX1_fare_2) rfl (fun H locs cells slots I => ?_)
    refine lv_astore_n (lv' := [(2, .ref v_18), (0, .ref x0), (1, .int x1)]) hx hb dX1_fare_5 rfl hl (by decide) rfl (fun ls hl => ?_)
    refine lv_aload_n hx hb dX1_fare_6 rfl (lv_at hl 0 rfl) ?_
    obtain ⟨v_20, ev_20, hf⟩ := ob hf
    refine g_getN hX X I gfX1_345 (gI_in ev_20) dX1_fare_7 ?_
    refine lv_if_ne (tgt := 29) hx hb dX1_fare_10 (by decide) (fun c_10 => ?_) (fun c_10 => ?_)
    · have hf := im c_10 hf
      refine lv_iconst (v := (-1)) hx hb dX1_fare_29 (by decide) ?_
      cases os hf
      exact x_ret (r_iret X I dX1_fare_30)
    · have hf := ip c_10 hf
      refine lv_aload_n hx hb dX1_fare_13 rfl (lv_at hl 0 rfl) ?_
      obtain ⟨v_21, ev_21, hf⟩ := ob hf
      refine g_getN hX X I gfX1_313 (gI_in ev_21) dX1_fare_14 ?_
      refine lv_iconst (v := 1) hx hb dX1_fare_17 (by decide) ?_
      refine lv_icmp_eq (tgt := 31) hx hb dX1_fare_18 (by decide) (fun c_18 => ?_) (fun c_18 => ?_)
      · have hf := ip c_18 hf
        exact wX1_fare_31 hX hR X XH hS N x0 x1 v_18 σ_17 _ _ _ _ _ I (lv_sub hl [1, 2, 0] rfl) hf
      · have hf := im c_18 hf
        refine lv_aload_n hx hb dX1_fare_21 rfl (lv_at hl 0 rfl) ?_
        obtain ⟨v_22, ev_22, hf⟩ := ob hf
        refine g_getN hX X I gfX1_313 (gI_in ev_22) dX1_fare_22 ?_
        refine lv_iconst (v := 2) hx hb dX1_fare_25 (by decide) ?_
        refine lv_icmp_eq (tgt := 31) hx hb dX1_fare_26 (by decide) (fun c_26 => ?_) (fun c_26 => ?_)
        · have hf := ip c_26 hf
          exact wX1_fare_31 hX hR X XH hS N x0 x1 v_18 σ_17 _ _ _ _ _ I (lv_sub hl [1, 2, 0] rfl) hf
        · have hf := im c_26 hf
          refine lv_iconst (v := (-1)) hx hb dX1_fare_29 (by decide) ?_
          cases os hf
          exact x_ret (r_iret X I dX1_fare_30)
  · have hf := se_r hgv_16
    obtain ⟨uq_19, eq_19, hf⟩ := ob hf
    cases os hf
    refine cx_thr I (xr_V (vw := (RX1, TX1, 7)) (ci := 0) (σ' := σ_17) (rest := []) (As := [.int x1]) X I eu_15 rfl (mX1_rideAt hX hS ev_16) lvX1_309 hdX1_309 ⟨Nat.le_trans (Nat.le_of_ble_eq_true rfl) hR.1, Nat.le_trans (Nat.le_of_ble_eq_true rfl) hR.2⟩ rfl hl.1 rfl (Nat.le_of_ble_eq_true rfl) dX1_fare_2) (fun H locs cells slots I => ?_)
    exact x_out X XH rfl I eq_19
theorem mX1_fare {E : EV} {l : Launch} {N : Nat} {σ : St} {x0 : Nat} {x1 : Int32} {res : ((Int32 ⊕ Nat) × St)} (hX : XK E) (hS : l.stackTraces = false) (hf : fX1_fare N E.2.2.2.1 σ x0 x1 = some res) : CX E l yX1_fare (ws_ yX1_fare cX1_fare 3 (some .int)) 8 198 [.ref x0, .int x1] σ (sv (fun v => (some (.int v))) res.1) (sx res.1) res.2 := by
  refine CX.of hX.1 (by decide) rfl rfl (Nat.le_of_ble_eq_true rfl) ?_
  intro p e s m below meth c X XH I ls hl
  exact wX1_fare_0 hX ⟨Nat.le_refl _, Nat.le_refl _⟩ X XH hS N _ _ _ _ _ _ _ _ I hl hf
/-! SharedTaxisLaw.fare(LSharedTaxis;I[J)I imp=True fuel=True kap=True rt=I thr=False -/
theorem lvX0_46 : GoodIn lw_all (wsV RX0 46 RX1 yX1_fare (ws_ yX1_fare cX1_fare 3 (some .int))) := lw_V q1895 q1896 q1897 q113 q1898
theorem hdX0_46 : yX1_fare.cls = RX1 ∧ yX1_fare.cls ≠ "java/lang/invoke/MethodHandle" ∧ yX1_fare.cls ≠ "java/lang/invoke/VarHandle" ∧ (parseMethodDescriptor yX1_fare.desc).map (fun d => d.parameters.length) = some 1 := by decide +kernel
def fX0_fare (N : Nat) (κ : Nat → Nat) (σ : St) (x0 : Nat) (x1 : Int32) (x2 : Nat) : Option (Int32 × St) := (isC σ x0 0).bind fun u_1 : Unit => (fX1_fare N κ σ x0 x1).bind fun (v_2, σ_3) => se v_2 (fun v_4 => (sJ σ_3 x2 (0 : Int32) (v_4.toInt64)).bind fun σ_6 : St => some ((0 : Int32), σ_6)) (fun q_5 => (clsX σ_3 q_5).bind fun c_7 : Nat => if c_7 = 34 then some ((1 : Int32), σ_3) else none)
theorem wX0_fare_0 {E : EV} {l : Launch} {p : Program} {e : Env} {s : State} {m : MethodId} {args : Array Value} {below : List Frame} {meth : Method} {c : Code} {R : Room} {res : (Int32 × St)} (hX : XK E) (hR : 9 ≤ R.frames ∧ 220 ≤ R.locals) (X : MX E p s m args meth c cX0_fare 4 (some .int) RX0 "fare") (XH : MH c [(0, 9, 12, 18)]) (hS : l.stackTraces = false) (N : Nat) : ∀ (x0 : Nat) (x1 : Int32) (x2 : Nat) (σ : St) (H : Heap) (locs : List Loc) (cells slots : Nat) (ls : Array Slot), WI E R s σ H locs cells slots → lv_has ls 4 [(0, .ref x0), (1, .int x1), (2, .ref x2)] → fX0_fare N E.2.2.2.1 σ x0 x1 x2 = some res → W p l e R s m args below meth c H locs cells slots (vx_MQ below (QS E R.cells R.slots (some (some (.int res.1))) res.2) (XS E R.cells R.slots none res.2) args s R.cells R.slots (fr E)) (F0 m 0 ls []) := by
  intro x0 x1 x2 σ H locs cells slots ls I hl hf
  obtain ⟨⟨hx, hb, hml, hown, hts⟩, -⟩ := id X
  unfold fX0_fare at hf
  refine lv_aload_n hx hb dX0_fare_0 rfl (lv_at hl 2 rfl) ?_
  refine lv_iconst (v := 0) hx hb dX0_fare_1 (by decide) ?_
  refine lv_aload_n hx hb dX0_fare_2 rfl (lv_at hl 0 rfl) ?_
  refine lv_iload_n hx hb dX0_fare_3 rfl (lv_at hl 1 rfl) ?_
  obtain ⟨u_1, eu_1, hf⟩ := ob hf
  obtain ⟨⟨v_2, σ_3⟩, ev_2, hf⟩ := ob hf
  have hgv_2 := hf
  rcases v_2 with v_4 | q_5
  · have hf := se_l hgv_2
    refine cx_ret (r := (some (.int v_4))) (rs := [.int v_4, .int (0 : Int32), .ref x2]) I (xr_V (vw := (RX1, TX1, 7)) (ci := 0) (σ' := σ_3) (rest := [.int (0 : Int32), .ref x2]) (As := [.int x1]) X I eu_1 rfl (mX1_fare hX hS ev_2) lvX0_46 hdX0_46 ⟨Nat.le_trans (Nat.le_of_ble_eq_true rfl) hR.1, Nat.le_trans (Nat.le_of_ble_eq_true rfl) hR.2⟩ rfl hl.1 rfl (Nat.le_of_ble_eq_true rfl) dX0_fare_4) rfl (fun H locs cells slots I => ?_)
    refine lv_i2l hx hb dX0_fare_7 rfl ?_
    obtain ⟨σ_6, eσ_6, hf⟩ := ob hf
    refine g_last X I eσ_6 dX0_fare_8 (fun H locs I => ?_)
    refine lv_goto (tgt := 15) hx hb dX0_fare_9 (by decide) ?_
    refine lv_iconst (v := 0) hx hb dX0_fare_15 (by decide) ?_
    cases os hf
    exact x_ret (r_iret X I dX0_fare_16)
  · have hf := se_r hgv_2
    obtain ⟨c_7, ec_7, hf⟩ := ob hf
    refine cx_thr I (xr_V (vw := (RX1, TX1, 7)) (ci := 0) (σ' := σ_3) (rest := [.int (0 : Int32), .ref x2]) (As := [.int x1]) X I eu_1 rfl (mX1_fare hX hS ev_2) lvX0_46 hdX0_46 ⟨Nat.le_trans (Nat.le_of_ble_eq_true rfl) hR.1, Nat.le_trans (Nat.le_of_ble_eq_true rfl) hR.2⟩ rfl hl.1 rfl (Nat.le_of_ble_eq_true rfl) dX0_fare_4) (fun H locs cells slots I => ?_)
    by_cases cc_7_E22 : c_7 = 34
    · have hf := ip cc_7_E22 hf
      refine x_catch (vw := (RJ22, TJ22, 0)) hX X XH I (cc_7_E22 ▸ ec_7) rfl ((tableOf [(0, 9, 12, 18)]).take 0) _ _ rfl (fun z hz => nomatch hz) rfl (by decide) q1558 q417 ?_
      refine lv_astore_n (lv' := [(3, .ref q_5), (0, .ref x0), (1, .int x1), (2, .ref x2)]) hx hb dX0_fare_12 rfl hl (by decide) rfl (fun ls hl => ?_)
      refine lv_iconst (v := 1) hx hb dX0_fare_13 (by decide) ?_
      cases os hf
      exact x_ret (r_iret X I dX0_fare_14)
    · have hf := im cc_7_E22 hf
      exact nomatch hf
theorem mX0_fare {E : EV} {l : Launch} {N : Nat} {σ : St} {x0 : Nat} {x1 : Int32} {x2 : Nat} {res : (Int32 × St)} (hX : XK E) (hS : l.stackTraces = false) (hf : fX0_fare N E.2.2.2.1 σ x0 x1 x2 = some res) : CX E l yX0_fare (wsW_ yX0_fare cX0_fare 4 (some .int) [(0, 9, 12, 18)]) 9 220 [.ref x0, .int x1, .ref x2] σ (some (some (.int res.1))) none res.2 := by
  refine CX.ofH hX.1 (by decide) rfl rfl (Nat.le_of_ble_eq_true rfl) ?_
  intro p e s m below meth c X XH I ls hl
  exact wX0_fare_0 hX ⟨Nat.le_refl _, Nat.le_refl _⟩ X XH hS N _ _ _ _ _ _ _ _ _ I hl hf
/-! SharedTaxis.aloneFare(II)I imp=True fuel=False kap=False rt=I thr=True -/
theorem lvX1_408 : GoodIn lw_all (wsV RX1 408 RX1 yX1_minutes (ws_ yX1_minutes cX1_minutes 3 (some .int))) := lw_V q2020 q1584 q1585 q113 q1586
theorem hdX1_408 : yX1_minutes.cls = RX1 ∧ yX1_minutes.cls ≠ "java/lang/invoke/MethodHandle" ∧ yX1_minutes.cls ≠ "java/lang/invoke/VarHandle" ∧ (parseMethodDescriptor yX1_minutes.desc).map (fun d => d.parameters.length) = some 2 := by decide +kernel
def fX1_aloneFare (σ : St) (x0 : Nat) (x1 : Int32) (x2 : Int32) : Option ((Int32 ⊕ Nat) × St) := (isC σ x0 0).bind fun u_1 : Unit => (fX1_minutes σ x0 x1 x2).bind fun (v_2, σ_3) => se v_2 (fun v_4 => if v_4 = (-1 : Int32) then some (.inl (-1 : Int32), σ_3) else (gR σ_3 x0 [(0, 3)]).bind fun v_6 : Option Nat => (v_6).bind fun a_7 : Nat => (gI σ_3 a_7 [(1, 2)]).bind fun v_8 : Int32 => (gR σ_3 x0 [(0, 3)]).bind fun v_9 : Option Nat => (v_9).bind fun a_10 : Nat => (gI σ_3 a_10 [(1, 3)]).bind fun v_11 : Int32 => some (.inl (v_8 + (v_4 * v_11)), σ_3)) (fun q_5 => (isX σ_3 q_5).bind fun uq_5 : Unit => some (.inr q_5, σ_3))
theorem wX1_aloneFare_0 {E : EV} {l : Launch} {p : Program} {e : Env} {s : State} {m : MethodId} {args : Array Value} {below : List Frame} {meth : Method} {c : Code} {R : Room} {res : ((Int32 ⊕ Nat) × St)} (hX : XK E) (hR : 9 ≤ R.frames ∧ 152 ≤ R.locals) (X : MX E p s m args meth c cX1_aloneFare 4 (some .int) RX1 "aloneFare") (XH : MH c []) (hS : l.stackTraces = false) : ∀ (x0 : Nat) (x1 : Int32) (x2 : Int32) (σ : St) (H : Heap) (locs : List Loc) (cells slots : Nat) (ls : Array Slot), WI E R s σ H locs cells slots → lv_has ls 4 [(0, .ref x0), (1, .int x1), (2, .int x2)] → fX1_aloneFare σ x0 x1 x2 = some res → W p l e R s m args below meth c H locs cells slots (vx_MQ below (QS E R.cells R.slots (sv (fun v => (some (.int v))) res.1) res.2) (XS E R.cells R.slots (sx res.1) res.2) args s R.cells R.slots (fr E)) (F0 m 0 ls []) := by
  intro x0 x1 x2 σ H locs cells slots ls I hl hf
  obtain ⟨⟨hx, hb, hml, hown, hts⟩, -⟩ := id X
  unfold fX1_aloneFare at hf
  refine lv_aload_n hx hb dX1_aloneFare_0 rfl (lv_at hl 0 rfl) ?_
  refine lv_iload_n hx hb dX1_aloneFare_1 rfl (lv_at hl 1 rfl) ?_
  refine lv_iload_n hx hb dX1_aloneFare_2 rfl (lv_at hl 2 rfl) ?_
  obtain ⟨u_1, eu_1, hf⟩ := ob hf
  obtain ⟨⟨v_2, σ_3⟩, ev_2, hf⟩ := ob hf
  have hgv_2 := hf
  rcases v_2 with v_4 | q_5
  · have hf := se_l hgv_2
    refine cx_ret (r := (some (.int v_4))) (rs := [.int v_4]) I (xr_V (vw := (RX1, TX1, 7)) (ci := 0) (σ' := σ_3) (rest := []) (As := [.int x1, .int x2]) X I eu_1 rfl (mX1_minutes hX hS ev_2) lvX1_408 hdX1_408 ⟨Nat.le_trans (Nat.le_of_ble_eq_true rfl) hR.1, Nat.le_trans (Nat.le_of_ble_eq_true rfl) hR.2⟩ rfl hl.1 rfl (Nat.le_of_ble_eq_true rfl) dX1_aloneFare_3) rfl (fun H locs cells slots I => ?_)
    refine lv_istore_n (lv' := [(3, .int v_4), (0, .ref x0), (1, .int x1), (2, .int x2)]) hx hb dX1_aloneFare_6 rfl hl (by decide) rfl (fun ls hl => ?_)
    refine lv_iload_n hx hb dX1_aloneFare_7 rfl (lv_at hl 0 rfl) ?_
    refine lv_iconst (v := (-1)) hx hb dX1_aloneFare_8 (by decide) ?_
    refine lv_icmp_ne (tgt := 16) hx hb dX1_aloneFare_9 (by decide) (fun c_9 => ?_) (fun c_9 => ?_)
    · have hf := im c_9 hf
      refine lv_aload_n hx hb dX1_aloneFare_16 rfl (lv_at hl 1 rfl) ?_
      obtain ⟨v_6, ev_6, hf⟩ := ob hf
      refine g_get X I gfX1_87 (gR_in ev_6) dX1_aloneFare_17 ?_
      obtain ⟨a_7, ea_7, hga_7⟩ := ob hf
      have hla_7 := hl
      have Ia_7 := I
      subst ea_7
      have hf := hga_7
      have hl := hla_7
      have I := Ia_7
      obtain ⟨v_8, ev_8, hf⟩ := ob hf
      refine g_getN hX X I gfX1_219 (gI_in ev_8) dX1_aloneFare_20 ?_
      refine lv_iload_n hx hb dX1_aloneFare_23 rfl (lv_at hl 0 rfl) ?_
      refine lv_aload_n hx hb dX1_aloneFare_24 rfl (lv_at hl 1 rfl) ?_
      obtain ⟨v_9, ev_9, hf⟩ := ob hf
      refine g_get X I gfX1_87 (gR_in ev_9) dX1_aloneFare_25 ?_
      obtain ⟨a_10, ea_10, hga_10⟩ := ob hf
      have hla_10 := hl
      have Ia_10 := I
      subst ea_10
      have hf := hga_10
      have hl := hla_10
      have I := Ia_10
      obtain ⟨v_11, ev_11, hf⟩ := ob hf
      refine g_getN hX X I gfX1_222 (gI_in ev_11) dX1_aloneFare_28 ?_
      refine lv_imul hx hb dX1_aloneFare_31 ?_
      refine lv_iadd hx hb dX1_aloneFare_32 ?_
      cases os hf
      exact x_ret (r_iret X I dX1_aloneFare_33)
    · have hf := ip c_9 hf
      refine lv_iconst (v := (-1)) hx hb dX1_aloneFare_12 (by decide) ?_
      refine lv_goto (tgt := 33) hx hb dX1_aloneFare_13 (by decide) ?_
      cases os hf
      exact x_ret (r_iret X I dX1_aloneFare_33)
  · have hf := se_r hgv_2
    obtain ⟨uq_5, eq_5, hf⟩ := ob hf
    cases os hf
    refine cx_thr I (xr_V (vw := (RX1, TX1, 7)) (ci := 0) (σ' := σ_3) (rest := []) (As := [.int x1, .int x2]) X I eu_1 rfl (mX1_minutes hX hS ev_2) lvX1_408 hdX1_408 ⟨Nat.le_trans (Nat.le_of_ble_eq_true rfl) hR.1, Nat.le_trans (Nat.le_of_ble_eq_true rfl) hR.2⟩ rfl hl.1 rfl (Nat.le_of_ble_eq_true rfl) dX1_aloneFare_3) (fun H locs cells slots I => ?_)
    exact x_out X XH rfl I eq_5
theorem mX1_aloneFare {E : EV} {l : Launch} {σ : St} {x0 : Nat} {x1 : Int32} {x2 : Int32} {res : ((Int32 ⊕ Nat) × St)} (hX : XK E) (hS : l.stackTraces = false) (hf : fX1_aloneFare σ x0 x1 x2 = some res) : CX E l yX1_aloneFare (ws_ yX1_aloneFare cX1_aloneFare 4 (some .int)) 9 152 [.ref x0, .int x1, .int x2] σ (sv (fun v => (some (.int v))) res.1) (sx res.1) res.2 := by
  refine CX.of hX.1 (by decide) rfl rfl (Nat.le_of_ble_eq_true rfl) ?_
  intro p e s m below meth c X XH I ls hl
  exact wX1_aloneFare_0 hX ⟨Nat.le_refl _, Nat.le_refl _⟩ X XH hS _ _ _ _ _ _ _ _ _ I hl hf
/-! SharedTaxisLaw.aloneFare(LSharedTaxis;II[J)I imp=True fuel=False kap=False rt=I thr=False -/
theorem lvX0_49 : GoodIn lw_all (wsV RX0 49 RX1 yX1_aloneFare (ws_ yX1_aloneFare cX1_aloneFare 4 (some .int))) := lw_V q2016 q2017 q2018 q113 q2019
theorem hdX0_49 : yX1_aloneFare.cls = RX1 ∧ yX1_aloneFare.cls ≠ "java/lang/invoke/MethodHandle" ∧ yX1_aloneFare.cls ≠ "java/lang/invoke/VarHandle" ∧ (parseMethodDescriptor yX1_aloneFare.desc).map (fun d => d.parameters.length) = some 2 := by decide +kernel
def fX0_aloneFare (σ : St) (x0 : Nat) (x1 : Int32) (x2 : Int32) (x3 : Nat) : Option (Int32 × St) := (isC σ x0 0).bind fun u_1 : Unit => (fX1_aloneFare σ x0 x1 x2).bind fun (v_2, σ_3) => se v_2 (fun v_4 => (sJ σ_3 x3 (0 : Int32) (v_4.toInt64)).bind fun σ_6 : St => some ((0 : Int32), σ_6)) (fun q_5 => (clsX σ_3 q_5).bind fun c_7 : Nat => if c_7 = 34 then some ((1 : Int32), σ_3) else none)
theorem wX0_aloneFare_0 {E : EV} {l : Launch} {p : Program} {e : Env} {s : State} {m : MethodId} {args : Array Value} {below : List Frame} {meth : Method} {c : Code} {R : Room} {res : (Int32 × St)} (hX : XK E) (hR : 10 ≤ R.frames ∧ 175 ≤ R.locals) (X : MX E p s m args meth c cX0_aloneFare 5 (some .int) RX0 "aloneFare") (XH : MH c [(0, 10, 13, 18)]) (hS : l.stackTraces = false) : ∀ (x0 : Nat) (x1 : Int32) (x2 : Int32) (x3 : Nat) (σ : St) (H : Heap) (locs : List Loc) (cells slots : Nat) (ls : Array Slot), WI E R s σ H locs cells slots → lv_has ls 5 [(0, .ref x0), (1, .int x1), (2, .int x2), (3, .ref x3)] → fX0_aloneFare σ x0 x1 x2 x3 = some res → W p l e R s m args below meth c H locs cells slots (vx_MQ below (QS E R.cells R.slots (some (some (.int res.1))) res.2) (XS E R.cells R.slots none res.2) args s R.cells R.slots (fr E)) (F0 m 0 ls []) := by
  intro x0 x1 x2 x3 σ H locs cells slots ls I hl hf
  obtain ⟨⟨hx, hb, hml, hown, hts⟩, -⟩ := id X
  unfold fX0_aloneFare at hf
  refine lv_aload_n hx hb dX0_aloneFare_0 rfl (lv_at hl 3 rfl) ?_
  refine lv_iconst (v := 0) hx hb dX0_aloneFare_1 (by decide) ?_
  refine lv_aload_n hx hb dX0_aloneFare_2 rfl (lv_at hl 0 rfl) ?_
  refine lv_iload_n hx hb dX0_aloneFare_3 rfl (lv_at hl 1 rfl) ?_
  refine lv_iload_n hx hb dX0_aloneFare_4 rfl (lv_at hl 2 rfl) ?_
  obtain ⟨u_1, eu_1, hf⟩ := ob hf
  obtain ⟨⟨v_2, σ_3⟩, ev_2, hf⟩ := ob hf
  have hgv_2 := hf
  rcases v_2 with v_4 | q_5
  · have hf := se_l hgv_2
    refine cx_ret (r := (some (.int v_4))) (rs := [.int v_4, .int (0 : Int32), .ref x3]) I (xr_V (vw := (RX1, TX1, 7)) (ci := 0) (σ' := σ_3) (rest := [.int (0 : Int32), .ref x3]) (As := [.int x1, .int x2]) X I eu_1 rfl (mX1_aloneFare hX hS ev_2) lvX0_49 hdX0_49 ⟨Nat.le_trans (Nat.le_of_ble_eq_true rfl) hR.1, Nat.le_trans (Nat.le_of_ble_eq_true rfl) hR.2⟩ rfl hl.1 rfl (Nat.le_of_ble_eq_true rfl) dX0_aloneFare_5) rfl (fun H locs cells slots I => ?_)
    refine lv_i2l hx hb dX0_aloneFare_8 rfl ?_
    obtain ⟨σ_6, eσ_6, hf⟩ := ob hf
    refine g_last X I eσ_6 dX0_aloneFare_9 (fun H locs I => ?_)
    refine lv_goto (tgt := 17) hx hb dX0_aloneFare_10 (by decide) ?_
    refine lv_iconst (v := 0) hx hb dX0_aloneFare_17 (by decide) ?_
    cases os hf
    exact x_ret (r_iret X I dX0_aloneFare_18)
  · have hf := se_r hgv_2
    obtain ⟨c_7, ec_7, hf⟩ := ob hf
    refine cx_thr I (xr_V (vw := (RX1, TX1, 7)) (ci := 0) (σ' := σ_3) (rest := [.int (0 : Int32), .ref x3]) (As := [.int x1, .int x2]) X I eu_1 rfl (mX1_aloneFare hX hS ev_2) lvX0_49 hdX0_49 ⟨Nat.le_trans (Nat.le_of_ble_eq_true rfl) hR.1, Nat.le_trans (Nat.le_of_ble_eq_true rfl) hR.2⟩ rfl hl.1 rfl (Nat.le_of_ble_eq_true rfl) dX0_aloneFare_5) (fun H locs cells slots I => ?_)
    by_cases cc_7_E22 : c_7 = 34
    · have hf := ip cc_7_E22 hf
      refine x_catch (vw := (RJ22, TJ22, 0)) hX X XH I (cc_7_E22 ▸ ec_7) rfl ((tableOf [(0, 10, 13, 18)]).take 0) _ _ rfl (fun z hz => nomatch hz) rfl (by decide) q1558 q417 ?_
      refine lv_astore (lv' := [(4, .ref q_5), (0, .ref x0), (1, .int x1), (2, .int x2), (3, .ref x3)]) hx hb dX0_aloneFare_13 hl (by decide) rfl (fun ls hl => ?_)
      refine lv_iconst (v := 1) hx hb dX0_aloneFare_15 (by decide) ?_
      cases os hf
      exact x_ret (r_iret X I dX0_aloneFare_16)
    · have hf := im cc_7_E22 hf
      exact nomatch hf
theorem mX0_aloneFare {E : EV} {l : Launch} {σ : St} {x0 : Nat} {x1 : Int32} {x2 : Int32} {x3 : Nat} {res : (Int32 × St)} (hX : XK E) (hS : l.stackTraces = false) (hf : fX0_aloneFare σ x0 x1 x2 x3 = some res) : CX E l yX0_aloneFare (wsW_ yX0_aloneFare cX0_aloneFare 5 (some .int) [(0, 10, 13, 18)]) 10 175 [.ref x0, .int x1, .int x2, .ref x3] σ (some (some (.int res.1))) none res.2 := by
  refine CX.ofH hX.1 (by decide) rfl rfl (Nat.le_of_ble_eq_true rfl) ?_
  intro p e s m below meth c X XH I ls hl
  exact wX0_aloneFare_0 hX ⟨Nat.le_refl _, Nat.le_refl _⟩ X XH hS _ _ _ _ _ _ _ _ _ _ I hl hf
/-! SharedTaxis.keeps(I)Z imp=True fuel=True kap=False rt=I thr=True -/
theorem lvX1_410 : GoodIn lw_all (wsV RX1 410 RX13 yX13_keeps (ws_ yX13_keeps cX13_keeps 1 (some .boolean))) := lw_V q2028 q1869 q1870 q149 q1871
theorem hdX1_410 : yX13_keeps.cls = RX13 ∧ yX13_keeps.cls ≠ "java/lang/invoke/MethodHandle" ∧ yX13_keeps.cls ≠ "java/lang/invoke/VarHandle" ∧ (parseMethodDescriptor yX13_keeps.desc).map (fun d => d.parameters.length) = some 0 := by decide +kernel
def fX1_keeps (N : Nat) (σ : St) (x0 : Nat) (x1 : Int32) : Option ((Int32 ⊕ Nat) × St) := (isC σ x0 0).bind fun u_1 : Unit => (fX1_taxiAt σ x0 x1).bind fun (v_2, σ_3) => se v_2 (fun v_4 => (nH σ_3 17 (.inr (11, [.null, .null, .null, .int 0, .int 0, .int 0, .int 0, .null, .null, .int 0, .int 0, .int 0, .int 0, .int 0, .int 0, .int 0, .null]))).bind fun (q_6a, q_6s) => (gR q_6s x0 [(0, 3)]).bind fun v_7 : Option Nat => (v_7).bind fun a_8 : Nat => (fX13_init q_6s q_6a a_8).bind fun σ_10 : St => (gR σ_10 v_4 [(10, 7)]).bind fun v_11 : Option Nat => (v_11).bind fun a_12 : Nat => (isC σ_10 q_6a 11).bind fun u_13 : Unit => (fX13_begin N σ_10 q_6a v_4 a_12).bind fun (v_14, σ_15) => (isC σ_15 v_14 11).bind fun u_16 : Unit => (fX13_keeps N σ_15 v_14).bind fun (v_17, σ_18) => if v_17 = 0 ∨ v_17 = 1 then some (.inl v_17, σ_18) else none) (fun q_5 => (isX σ_3 q_5).bind fun uq_5 : Unit => some (.inr q_5, σ_3))
theorem wX1_keeps_0 {E : EV} {l : Launch} {p : Program} {e : Env} {s : State} {m : MethodId} {args : Array Value} {below : List Frame} {meth : Method} {c : Code} {R : Room} {res : ((Int32 ⊕ Nat) × St)} (hX : XK E) (hR : 8 ≤ R.frames ∧ 130 ≤ R.locals) (X : MX E p s m args meth c cX1_keeps 3 (some .boolean) RX1 "keeps") (XH : MH c []) (hS : l.stackTraces = false) (N : Nat) : ∀ (x0 : Nat) (x1 : Int32) (σ : St) (H : Heap) (locs : List Loc) (cells slots : Nat) (ls : Array Slot), WI E R s σ H locs cells slots → lv_has ls 3 [(0, .ref x0), (1, .int x1)] → fX1_keeps N σ x0 x1 = some res → W p l e R s m args below meth c H locs cells slots (vx_MQ below (QS E R.cells R.slots (sv (fun v => (some (.int v))) res.1) res.2) (XS E R.cells R.slots (sx res.1) res.2) args s R.cells R.slots (fr E)) (F0 m 0 ls []) := by
  intro x0 x1 σ H locs cells slots ls I hl hf
  obtain ⟨⟨hx, hb, hml, hown, hts⟩, -⟩ := id X
  unfold fX1_keeps at hf
  refine lv_aload_n hx hb dX1_keeps_0 rfl (lv_at hl 0 rfl) ?_
  refine lv_iload_n hx hb dX1_keeps_1 rfl (lv_at hl 1 rfl) ?_
  obtain ⟨u_1, eu_1, hf⟩ := ob hf
  obtain ⟨⟨v_2, σ_3⟩, ev_2, hf⟩ := ob hf
  have hgv_2 := hf
  rcases v_2 with v_4 | q_5
  · have hf := se_l hgv_2
    refine cx_ret (r := (some (.ref v_4))) (rs := [.ref v_4]) I (xr_V (vw := (RX1, TX1, 7)) (ci := 0) (σ' := σ_3) (rest := []) (As := [.int x1]) X I eu_1 rfl (mX1_taxiAt hX hS ev_2) lvX1_238 hdX1_238 ⟨Nat.le_trans (Nat.le_of_ble_eq_true rfl) hR.1, Nat.le_trans (Nat.le_of_ble_eq_true rfl) hR.2⟩ rfl hl.1 rfl (Nat.le_of_ble_eq_true rfl) dX1_keeps_2) rfl (fun H locs cells slots I => ?_)
    refine lv_astore_n (lv' := [(2, .ref v_4), (0, .ref x0), (1, .int x1)]) hx hb dX1_keeps_5 rfl hl (by decide) rfl (fun ls hl => ?_)
    obtain ⟨⟨q_6a, q_6s⟩, eq_6, hf⟩ := ob hf
    refine g_new X I noX1_274 eq_6 dX1_keeps_6 (fun H locs cells slots I => ?_)
    refine lv_dup hx hb dX1_keeps_9 rfl ?_
    refine lv_aload_n hx hb dX1_keeps_10 rfl (lv_at hl 1 rfl) ?_
    obtain ⟨v_7, ev_7, hf⟩ := ob hf
    refine g_get X I gfX1_87 (gR_in ev_7) dX1_keeps_11 ?_
    obtain ⟨a_8, ea_8, hga_8⟩ := ob hf
    have hla_8 := hl
    have Ia_8 := I
    subst ea_8
    have hf := hga_8
    have hl := hla_8
    have I := Ia_8
    obtain ⟨σ_10, ev_9, hf⟩ := ob hf
    refine cm_I (σ' := σ_10) (rs := [.ref q_6a]) (rest := [.ref q_6a]) (As := [.ref a_8]) X I (mX13_init hX ev_9) lvX1_276 hdX1_276 ⟨Nat.le_trans (Nat.le_of_ble_eq_true rfl) hR.1, Nat.le_trans (Nat.le_of_ble_eq_true rfl) hR.2⟩ rfl hl.1 rfl (Nat.le_of_ble_eq_true rfl) rfl dX1_keeps_14 (fun H locs cells slots I => ?_)
    refine lv_aload_n hx hb dX1_keeps_17 rfl (lv_at hl 0 rfl) ?_
    refine lv_aload_n hx hb dX1_keeps_18 rfl (lv_at hl 0 rfl) ?_
    obtain ⟨v_11, ev_11, hf⟩ := ob hf
    refine g_getN hX X I gfX1_203 (gR_in ev_11) dX1_keeps_19 ?_
    obtain ⟨a_12, ea_12, hga_12⟩ := ob hf
    have hla_12 := hl
    have Ia_12 := I
    subst ea_12
    have hf := hga_12
    have hl := hla_12
    have I := Ia_12
    obtain ⟨u_13, eu_13, hf⟩ := ob hf
    obtain ⟨⟨v_14, σ_15⟩, ev_14, hf⟩ := ob hf
    refine cg_V (vw := (RX13, TX13, 17)) (ci := 11) (r := (some (.ref v_14))) (σ' := σ_15) (rs := [.ref v_14]) (rest := []) (As := [.ref v_4, .ref a_12]) X I eu_13 rfl (mX13_begin hX ev_14) lvX1_279 hdX1_279 ⟨Nat.le_trans (Nat.le_of_ble_eq_true rfl) hR.1, Nat.le_trans (Nat.le_of_ble_eq_true rfl) hR.2⟩ rfl hl.1 rfl (Nat.le_of_ble_eq_true rfl) rfl dX1_keeps_22 (fun H locs cells slots I => ?_)
    obtain ⟨u_16, eu_16, hf⟩ := ob hf
    obtain ⟨⟨v_17, σ_18⟩, ev_17, hf⟩ := ob hf
    refine cg_V (vw := (RX13, TX13, 17)) (ci := 11) (r := (some (.int v_17))) (σ' := σ_18) (rs := [.int v_17]) (rest := []) (As := []) X I eu_16 rfl (mX13_keeps hX ev_17) lvX1_410 hdX1_410 ⟨Nat.le_trans (Nat.le_of_ble_eq_true rfl) hR.1, Nat.le_trans (Nat.le_of_ble_eq_true rfl) hR.2⟩ rfl hl.1 rfl (Nat.le_of_ble_eq_true rfl) rfl dX1_keeps_25 (fun H locs cells slots I => ?_)
    by_cases d_28 : ¬ (v_17 = 0 ∨ v_17 = 1)
    · exact nomatch (im d_28 hf)
    have c_28 := Decidable.not_not.mp d_28
    have hf := ip c_28 hf
    cases os hf
    exact x_ret (r_zret X I c_28 dX1_keeps_28)
  · have hf := se_r hgv_2
    obtain ⟨uq_5, eq_5, hf⟩ := ob hf
    cases os hf
    refine cx_thr I (xr_V (vw := (RX1, TX1, 7)) (ci := 0) (σ' := σ_3) (rest := []) (As := [.int x1]) X I eu_1 rfl (mX1_taxiAt hX hS ev_2) lvX1_238 hdX1_238 ⟨Nat.le_trans (Nat.le_of_ble_eq_true rfl) hR.1, Nat.le_trans (Nat.le_of_ble_eq_true rfl) hR.2⟩ rfl hl.1 rfl (Nat.le_of_ble_eq_true rfl) dX1_keeps_2) (fun H locs cells slots I => ?_)
    exact x_out X XH rfl I eq_5
theorem mX1_keeps {E : EV} {l : Launch} {N : Nat} {σ : St} {x0 : Nat} {x1 : Int32} {res : ((Int32 ⊕ Nat) × St)} (hX : XK E) (hS : l.stackTraces = false) (hf : fX1_keeps N σ x0 x1 = some res) : CX E l yX1_keeps (ws_ yX1_keeps cX1_keeps 3 (some .boolean)) 8 130 [.ref x0, .int x1] σ (sv (fun v => (some (.int v))) res.1) (sx res.1) res.2 := by
  refine CX.of hX.1 (by decide) rfl rfl (Nat.le_of_ble_eq_true rfl) ?_
  intro p e s m below meth c X XH I ls hl
  exact wX1_keeps_0 hX ⟨Nat.le_refl _, Nat.le_refl _⟩ X XH hS N _ _ _ _ _ _ _ _ I hl hf
/-! SharedTaxisLaw.keeps(LSharedTaxis;I[J)I imp=True fuel=True kap=False rt=I thr=False -/
theorem lvX0_52 : GoodIn lw_all (wsV RX0 52 RX1 yX1_keeps (ws_ yX1_keeps cX1_keeps 3 (some .boolean))) := lw_V q2024 q2025 q2026 q113 q2027
theorem hdX0_52 : yX1_keeps.cls = RX1 ∧ yX1_keeps.cls ≠ "java/lang/invoke/MethodHandle" ∧ yX1_keeps.cls ≠ "java/lang/invoke/VarHandle" ∧ (parseMethodDescriptor yX1_keeps.desc).map (fun d => d.parameters.length) = some 1 := by decide +kernel
def fX0_keeps (N : Nat) (σ : St) (x0 : Nat) (x1 : Int32) (x2 : Nat) : Option (Int32 × St) := (isC σ x0 0).bind fun u_1 : Unit => (fX1_keeps N σ x0 x1).bind fun (v_2, σ_3) => se v_2 (fun v_4 => if v_4 = 0 then (sJ σ_3 x2 (0 : Int32) (0 : Int64)).bind fun σ_6 : St => some ((0 : Int32), σ_6) else (sJ σ_3 x2 (0 : Int32) (1 : Int64)).bind fun σ_7 : St => some ((0 : Int32), σ_7)) (fun q_5 => (clsX σ_3 q_5).bind fun c_8 : Nat => if c_8 = 34 then some ((1 : Int32), σ_3) else none)
theorem wX0_keeps_0 {E : EV} {l : Launch} {p : Program} {e : Env} {s : State} {m : MethodId} {args : Array Value} {below : List Frame} {meth : Method} {c : Code} {R : Room} {res : (Int32 × St)} (hX : XK E) (hR : 9 ≤ R.frames ∧ 152 ≤ R.locals) (X : MX E p s m args meth c cX0_keeps 4 (some .int) RX0 "keeps") (XH : MH c [(0, 16, 19, 18)]) (hS : l.stackTraces = false) (N : Nat) : ∀ (x0 : Nat) (x1 : Int32) (x2 : Nat) (σ : St) (H : Heap) (locs : List Loc) (cells slots : Nat) (ls : Array Slot), WI E R s σ H locs cells slots → lv_has ls 4 [(0, .ref x0), (1, .int x1), (2, .ref x2)] → fX0_keeps N σ x0 x1 x2 = some res → W p l e R s m args below meth c H locs cells slots (vx_MQ below (QS E R.cells R.slots (some (some (.int res.1))) res.2) (XS E R.cells R.slots none res.2) args s R.cells R.slots (fr E)) (F0 m 0 ls []) := by
  intro x0 x1 x2 σ H locs cells slots ls I hl hf
  obtain ⟨⟨hx, hb, hml, hown, hts⟩, -⟩ := id X
  unfold fX0_keeps at hf
  refine lv_aload_n hx hb dX0_keeps_0 rfl (lv_at hl 2 rfl) ?_
  refine lv_iconst (v := 0) hx hb dX0_keeps_1 (by decide) ?_
  refine lv_aload_n hx hb dX0_keeps_2 rfl (lv_at hl 0 rfl) ?_
  refine lv_iload_n hx hb dX0_keeps_3 rfl (lv_at hl 1 rfl) ?_
  obtain ⟨u_1, eu_1, hf⟩ := ob hf
  obtain ⟨⟨v_2, σ_3⟩, ev_2, hf⟩ := ob hf
  have hgv_2 := hf
  rcases v_2 with v_4 | q_5
  · have hf := se_l hgv_2
    refine cx_ret (r := (some (.int v_4))) (rs := [.int v_4, .int (0 : Int32), .ref x2]) I (xr_V (vw := (RX1, TX1, 7)) (ci := 0) (σ' := σ_3) (rest := [.int (0 : Int32), .ref x2]) (As := [.int x1]) X I eu_1 rfl (mX1_keeps hX hS ev_2) lvX0_52 hdX0_52 ⟨Nat.le_trans (Nat.le_of_ble_eq_true rfl) hR.1, Nat.le_trans (Nat.le_of_ble_eq_true rfl) hR.2⟩ rfl hl.1 rfl (Nat.le_of_ble_eq_true rfl) dX0_keeps_4) rfl (fun H locs cells slots I => ?_)
    refine lv_if_eq (tgt := 14) hx hb dX0_keeps_7 (by decide) (fun c_7 => ?_) (fun c_7 => ?_)
    · have hf := ip c_7 hf
      refine lv_lconst (v := 0) hx hb dX0_keeps_14 (by decide) ?_
      obtain ⟨σ_6, eσ_6, hf⟩ := ob hf
      refine g_last X I eσ_6 dX0_keeps_15 (fun H locs I => ?_)
      refine lv_goto (tgt := 22) hx hb dX0_keeps_16 (by decide) ?_
      refine lv_iconst (v := 0) hx hb dX0_keeps_22 (by decide) ?_
      cases os hf
      exact x_ret (r_iret X I dX0_keeps_23)
    · have hf := im c_7 hf
      refine lv_lconst (v := 1) hx hb dX0_keeps_10 (by decide) ?_
      refine lv_goto (tgt := 15) hx hb dX0_keeps_11 (by decide) ?_
      obtain ⟨σ_7, eσ_7, hf⟩ := ob hf
      refine g_last X I eσ_7 dX0_keeps_15 (fun H locs I => ?_)
      refine lv_goto (tgt := 22) hx hb dX0_keeps_16 (by decide) ?_
      refine lv_iconst (v := 0) hx hb dX0_keeps_22 (by decide) ?_
      cases os hf
      exact x_ret (r_iret X I dX0_keeps_23)
  · have hf := se_r hgv_2
    obtain ⟨c_8, ec_8, hf⟩ := ob hf
    refine cx_thr I (xr_V (vw := (RX1, TX1, 7)) (ci := 0) (σ' := σ_3) (rest := [.int (0 : Int32), .ref x2]) (As := [.int x1]) X I eu_1 rfl (mX1_keeps hX hS ev_2) lvX0_52 hdX0_52 ⟨Nat.le_trans (Nat.le_of_ble_eq_true rfl) hR.1, Nat.le_trans (Nat.le_of_ble_eq_true rfl) hR.2⟩ rfl hl.1 rfl (Nat.le_of_ble_eq_true rfl) dX0_keeps_4) (fun H locs cells slots I => ?_)
    by_cases cc_8_E22 : c_8 = 34
    · have hf := ip cc_8_E22 hf
      refine x_catch (vw := (RJ22, TJ22, 0)) hX X XH I (cc_8_E22 ▸ ec_8) rfl ((tableOf [(0, 16, 19, 18)]).take 0) _ _ rfl (fun z hz => nomatch hz) rfl (by decide) q1558 q417 ?_
      refine lv_astore_n (lv' := [(3, .ref q_5), (0, .ref x0), (1, .int x1), (2, .ref x2)]) hx hb dX0_keeps_19 rfl hl (by decide) rfl (fun ls hl => ?_)
      refine lv_iconst (v := 1) hx hb dX0_keeps_20 (by decide) ?_
      cases os hf
      exact x_ret (r_iret X I dX0_keeps_21)
    · have hf := im cc_8_E22 hf
      exact nomatch hf
theorem mX0_keeps {E : EV} {l : Launch} {N : Nat} {σ : St} {x0 : Nat} {x1 : Int32} {x2 : Nat} {res : (Int32 × St)} (hX : XK E) (hS : l.stackTraces = false) (hf : fX0_keeps N σ x0 x1 x2 = some res) : CX E l yX0_keeps (wsW_ yX0_keeps cX0_keeps 4 (some .int) [(0, 16, 19, 18)]) 9 152 [.ref x0, .int x1, .ref x2] σ (some (some (.int res.1))) none res.2 := by
  refine CX.ofH hX.1 (by decide) rfl rfl (Nat.le_of_ble_eq_true rfl) ?_
  intro p e s m below meth c X XH I ls hl
  exact wX0_keeps_0 hX ⟨Nat.le_refl _, Nat.le_refl _⟩ X XH hS N _ _ _ _ _ _ _ _ _ I hl hf
/-! SharedTaxis.routeMinutes(I)I imp=True fuel=True kap=False rt=I thr=True -/
theorem lvX1_413 : GoodIn lw_all (wsV RX1 413 RX13 yX13_minutesInAll (ws_ yX13_minutesInAll cX13_minutesInAll 2 (some .int))) := lw_V q2036 q1835 q1836 q149 q1837
theorem hdX1_413 : yX13_minutesInAll.cls = RX13 ∧ yX13_minutesInAll.cls ≠ "java/lang/invoke/MethodHandle" ∧ yX13_minutesInAll.cls ≠ "java/lang/invoke/VarHandle" ∧ (parseMethodDescriptor yX13_minutesInAll.desc).map (fun d => d.parameters.length) = some 0 := by decide +kernel
def fX1_routeMinutes (N : Nat) (σ : St) (x0 : Nat) (x1 : Int32) : Option ((Int32 ⊕ Nat) × St) := (isC σ x0 0).bind fun u_1 : Unit => (fX1_taxiAt σ x0 x1).bind fun (v_2, σ_3) => se v_2 (fun v_4 => (nH σ_3 17 (.inr (11, [.null, .null, .null, .int 0, .int 0, .int 0, .int 0, .null, .null, .int 0, .int 0, .int 0, .int 0, .int 0, .int 0, .int 0, .null]))).bind fun (q_6a, q_6s) => (gR q_6s x0 [(0, 3)]).bind fun v_7 : Option Nat => (v_7).bind fun a_8 : Nat => (fX13_init q_6s q_6a a_8).bind fun σ_10 : St => (gR σ_10 v_4 [(10, 7)]).bind fun v_11 : Option Nat => (v_11).bind fun a_12 : Nat => (isC σ_10 q_6a 11).bind fun u_13 : Unit => (fX13_begin N σ_10 q_6a v_4 a_12).bind fun (v_14, σ_15) => (isC σ_15 v_14 11).bind fun u_16 : Unit => (fX13_minutesInAll N σ_15 v_14).bind fun (v_17, σ_18) => some (.inl v_17, σ_18)) (fun q_5 => (isX σ_3 q_5).bind fun uq_5 : Unit => some (.inr q_5, σ_3))
theorem wX1_routeMinutes_0 {E : EV} {l : Launch} {p : Program} {e : Env} {s : State} {m : MethodId} {args : Array Value} {below : List Frame} {meth : Method} {c : Code} {R : Room} {res : ((Int32 ⊕ Nat) × St)} (hX : XK E) (hR : 8 ≤ R.frames ∧ 130 ≤ R.locals) (X : MX E p s m args meth c cX1_routeMinutes 3 (some .int) RX1 "routeMinutes") (XH : MH c []) (hS : l.stackTraces = false) (N : Nat) : ∀ (x0 : Nat) (x1 : Int32) (σ : St) (H : Heap) (locs : List Loc) (cells slots : Nat) (ls : Array Slot), WI E R s σ H locs cells slots → lv_has ls 3 [(0, .ref x0), (1, .int x1)] → fX1_routeMinutes N σ x0 x1 = some res → W p l e R s m args below meth c H locs cells slots (vx_MQ below (QS E R.cells R.slots (sv (fun v => (some (.int v))) res.1) res.2) (XS E R.cells R.slots (sx res.1) res.2) args s R.cells R.slots (fr E)) (F0 m 0 ls []) := by
  intro x0 x1 σ H locs cells slots ls I hl hf
  obtain ⟨⟨hx, hb, hml, hown, hts⟩, -⟩ := id X
  unfold fX1_routeMinutes at hf
  refine lv_aload_n hx hb dX1_routeMinutes_0 rfl (lv_at hl 0 rfl) ?_
  refine lv_iload_n hx hb dX1_routeMinutes_1 rfl (lv_at hl 1 rfl) ?_
  obtain ⟨u_1, eu_1, hf⟩ := ob hf
  obtain ⟨⟨v_2, σ_3⟩, ev_2, hf⟩ := ob hf
  have hgv_2 := hf
  rcases v_2 with v_4 | q_5
  · have hf := se_l hgv_2
    refine cx_ret (r := (some (.ref v_4))) (rs := [.ref v_4]) I (xr_V (vw := (RX1, TX1, 7)) (ci := 0) (σ' := σ_3) (rest := []) (As := [.int x1]) X I eu_1 rfl (mX1_taxiAt hX hS ev_2) lvX1_238 hdX1_238 ⟨Nat.le_trans (Nat.le_of_ble_eq_true rfl) hR.1, Nat.le_trans (Nat.le_of_ble_eq_true rfl) hR.2⟩ rfl hl.1 rfl (Nat.le_of_ble_eq_true rfl) dX1_routeMinutes_2) rfl (fun H locs cells slots I => ?_)
    refine lv_astore_n (lv' := [(2, .ref v_4), (0, .ref x0), (1, .int x1)]) hx hb dX1_routeMinutes_5 rfl hl (by decide) rfl (fun ls hl => ?_)
    obtain ⟨⟨q_6a, q_6s⟩, eq_6, hf⟩ := ob hf
    refine g_new X I noX1_274 eq_6 dX1_routeMinutes_6 (fun H locs cells slots I => ?_)
    refine lv_dup hx hb dX1_routeMinutes_9 rfl ?_
    refine lv_aload_n hx hb dX1_routeMinutes_10 rfl (lv_at hl 1 rfl) ?_
    obtain ⟨v_7, ev_7, hf⟩ := ob hf
    refine g_get X I gfX1_87 (gR_in ev_7) dX1_routeMinutes_11 ?_
    obtain ⟨a_8, ea_8, hga_8⟩ := ob hf
    have hla_8 := hl
    have Ia_8 := I
    subst ea_8
    have hf := hga_8
    have hl := hla_8
    have I := Ia_8
    obtain ⟨σ_10, ev_9, hf⟩ := ob hf
    refine cm_I (σ' := σ_10) (rs := [.ref q_6a]) (rest := [.ref q_6a]) (As := [.ref a_8]) X I (mX13_init hX ev_9) lvX1_276 hdX1_276 ⟨Nat.le_trans (Nat.le_of_ble_eq_true rfl) hR.1, Nat.le_trans (Nat.le_of_ble_eq_true rfl) hR.2⟩ rfl hl.1 rfl (Nat.le_of_ble_eq_true rfl) rfl dX1_routeMinutes_14 (fun H locs cells slots I => ?_)
    refine lv_aload_n hx hb dX1_routeMinutes_17 rfl (lv_at hl 0 rfl) ?_
    refine lv_aload_n hx hb dX1_routeMinutes_18 rfl (lv_at hl 0 rfl) ?_
    obtain ⟨v_11, ev_11, hf⟩ := ob hf
    refine g_getN hX X I gfX1_203 (gR_in ev_11) dX1_routeMinutes_19 ?_
    obtain ⟨a_12, ea_12, hga_12⟩ := ob hf
    have hla_12 := hl
    have Ia_12 := I
    subst ea_12
    have hf := hga_12
    have hl := hla_12
    have I := Ia_12
    obtain ⟨u_13, eu_13, hf⟩ := ob hf
    obtain ⟨⟨v_14, σ_15⟩, ev_14, hf⟩ := ob hf
    refine cg_V (vw := (RX13, TX13, 17)) (ci := 11) (r := (some (.ref v_14))) (σ' := σ_15) (rs := [.ref v_14]) (rest := []) (As := [.ref v_4, .ref a_12]) X I eu_13 rfl (mX13_begin hX ev_14) lvX1_279 hdX1_279 ⟨Nat.le_trans (Nat.le_of_ble_eq_true rfl) hR.1, Nat.le_trans (Nat.le_of_ble_eq_true rfl) hR.2⟩ rfl hl.1 rfl (Nat.le_of_ble_eq_true rfl) rfl dX1_routeMinutes_22 (fun H locs cells slots I => ?_)
    obtain ⟨u_16, eu_16, hf⟩ := ob hf
    obtain ⟨⟨v_17, σ_18⟩, ev_17, hf⟩ := ob hf
    refine cg_V (vw := (RX13, TX13, 17)) (ci := 11) (r := (some (.int v_17))) (σ' := σ_18) (rs := [.int v_17]) (rest := []) (As := []) X I eu_16 rfl (mX13_minutesInAll hX ev_17) lvX1_413 hdX1_413 ⟨Nat.le_trans (Nat.le_of_ble_eq_true rfl) hR.1, Nat.le_trans (Nat.le_of_ble_eq_true rfl) hR.2⟩ rfl hl.1 rfl (Nat.le_of_ble_eq_true rfl) rfl dX1_routeMinutes_25 (fun H locs cells slots I => ?_)
    cases os hf
    exact x_ret (r_iret X I dX1_routeMinutes_28)
  · have hf := se_r hgv_2
    obtain ⟨uq_5, eq_5, hf⟩ := ob hf
    cases os hf
    refine cx_thr I (xr_V (vw := (RX1, TX1, 7)) (ci := 0) (σ' := σ_3) (rest := []) (As := [.int x1]) X I eu_1 rfl (mX1_taxiAt hX hS ev_2) lvX1_238 hdX1_238 ⟨Nat.le_trans (Nat.le_of_ble_eq_true rfl) hR.1, Nat.le_trans (Nat.le_of_ble_eq_true rfl) hR.2⟩ rfl hl.1 rfl (Nat.le_of_ble_eq_true rfl) dX1_routeMinutes_2) (fun H locs cells slots I => ?_)
    exact x_out X XH rfl I eq_5
theorem mX1_routeMinutes {E : EV} {l : Launch} {N : Nat} {σ : St} {x0 : Nat} {x1 : Int32} {res : ((Int32 ⊕ Nat) × St)} (hX : XK E) (hS : l.stackTraces = false) (hf : fX1_routeMinutes N σ x0 x1 = some res) : CX E l yX1_routeMinutes (ws_ yX1_routeMinutes cX1_routeMinutes 3 (some .int)) 8 130 [.ref x0, .int x1] σ (sv (fun v => (some (.int v))) res.1) (sx res.1) res.2 := by
  refine CX.of hX.1 (by decide) rfl rfl (Nat.le_of_ble_eq_true rfl) ?_
  intro p e s m below meth c X XH I ls hl
  exact wX1_routeMinutes_0 hX ⟨Nat.le_refl _, Nat.le_refl _⟩ X XH hS N _ _ _ _ _ _ _ _ I hl hf
/-! SharedTaxisLaw.routeMinutes(LSharedTaxis;I[J)I imp=True fuel=True kap=False rt=I thr=False -/
theorem lvX0_56 : GoodIn lw_all (wsV RX0 56 RX1 yX1_routeMinutes (ws_ yX1_routeMinutes cX1_routeMinutes 3 (some .int))) := lw_V q2032 q2033 q2034 q113 q2035
theorem hdX0_56 : yX1_routeMinutes.cls = RX1 ∧ yX1_routeMinutes.cls ≠ "java/lang/invoke/MethodHandle" ∧ yX1_routeMinutes.cls ≠ "java/lang/invoke/VarHandle" ∧ (parseMethodDescriptor yX1_routeMinutes.desc).map (fun d => d.parameters.length) = some 1 := by decide +kernel
def fX0_routeMinutes (N : Nat) (σ : St) (x0 : Nat) (x1 : Int32) (x2 : Nat) : Option (Int32 × St) := (isC σ x0 0).bind fun u_1 : Unit => (fX1_routeMinutes N σ x0 x1).bind fun (v_2, σ_3) => se v_2 (fun v_4 => (sJ σ_3 x2 (0 : Int32) (v_4.toInt64)).bind fun σ_6 : St => some ((0 : Int32), σ_6)) (fun q_5 => (clsX σ_3 q_5).bind fun c_7 : Nat => if c_7 = 34 then some ((1 : Int32), σ_3) else none)
theorem wX0_routeMinutes_0 {E : EV} {l : Launch} {p : Program} {e : Env} {s : State} {m : MethodId} {args : Array Value} {below : List Frame} {meth : Method} {c : Code} {R : Room} {res : (Int32 × St)} (hX : XK E) (hR : 9 ≤ R.frames ∧ 152 ≤ R.locals) (X : MX E p s m args meth c cX0_routeMinutes 4 (some .int) RX0 "routeMinutes") (XH : MH c [(0, 9, 12, 18)]) (hS : l.stackTraces = false) (N : Nat) : ∀ (x0 : Nat) (x1 : Int32) (x2 : Nat) (σ : St) (H : Heap) (locs : List Loc) (cells slots : Nat) (ls : Array Slot), WI E R s σ H locs cells slots → lv_has ls 4 [(0, .ref x0), (1, .int x1), (2, .ref x2)] → fX0_routeMinutes N σ x0 x1 x2 = some res → W p l e R s m args below meth c H locs cells slots (vx_MQ below (QS E R.cells R.slots (some (some (.int res.1))) res.2) (XS E R.cells R.slots none res.2) args s R.cells R.slots (fr E)) (F0 m 0 ls []) := by
  intro x0 x1 x2 σ H locs cells slots ls I hl hf
  obtain ⟨⟨hx, hb, hml, hown, hts⟩, -⟩ := id X
  unfold fX0_routeMinutes at hf
  refine lv_aload_n hx hb dX0_routeMinutes_0 rfl (lv_at hl 2 rfl) ?_
  refine lv_iconst (v := 0) hx hb dX0_routeMinutes_1 (by decide) ?_
  refine lv_aload_n hx hb dX0_routeMinutes_2 rfl (lv_at hl 0 rfl) ?_
  refine lv_iload_n hx hb dX0_routeMinutes_3 rfl (lv_at hl 1 rfl) ?_
  obtain ⟨u_1, eu_1, hf⟩ := ob hf
  obtain ⟨⟨v_2, σ_3⟩, ev_2, hf⟩ := ob hf
  have hgv_2 := hf
  rcases v_2 with v_4 | q_5
  · have hf := se_l hgv_2
    refine cx_ret (r := (some (.int v_4))) (rs := [.int v_4, .int (0 : Int32), .ref x2]) I (xr_V (vw := (RX1, TX1, 7)) (ci := 0) (σ' := σ_3) (rest := [.int (0 : Int32), .ref x2]) (As := [.int x1]) X I eu_1 rfl (mX1_routeMinutes hX hS ev_2) lvX0_56 hdX0_56 ⟨Nat.le_trans (Nat.le_of_ble_eq_true rfl) hR.1, Nat.le_trans (Nat.le_of_ble_eq_true rfl) hR.2⟩ rfl hl.1 rfl (Nat.le_of_ble_eq_true rfl) dX0_routeMinutes_4) rfl (fun H locs cells slots I => ?_)
    refine lv_i2l hx hb dX0_routeMinutes_7 rfl ?_
    obtain ⟨σ_6, eσ_6, hf⟩ := ob hf
    refine g_last X I eσ_6 dX0_routeMinutes_8 (fun H locs I => ?_)
    refine lv_goto (tgt := 15) hx hb dX0_routeMinutes_9 (by decide) ?_
    refine lv_iconst (v := 0) hx hb dX0_routeMinutes_15 (by decide) ?_
    cases os hf
    exact x_ret (r_iret X I dX0_routeMinutes_16)
  · have hf := se_r hgv_2
    obtain ⟨c_7, ec_7, hf⟩ := ob hf
    refine cx_thr I (xr_V (vw := (RX1, TX1, 7)) (ci := 0) (σ' := σ_3) (rest := [.int (0 : Int32), .ref x2]) (As := [.int x1]) X I eu_1 rfl (mX1_routeMinutes hX hS ev_2) lvX0_56 hdX0_56 ⟨Nat.le_trans (Nat.le_of_ble_eq_true rfl) hR.1, Nat.le_trans (Nat.le_of_ble_eq_true rfl) hR.2⟩ rfl hl.1 rfl (Nat.le_of_ble_eq_true rfl) dX0_routeMinutes_4) (fun H locs cells slots I => ?_)
    by_cases cc_7_E22 : c_7 = 34
    · have hf := ip cc_7_E22 hf
      refine x_catch (vw := (RJ22, TJ22, 0)) hX X XH I (cc_7_E22 ▸ ec_7) rfl ((tableOf [(0, 9, 12, 18)]).take 0) _ _ rfl (fun z hz => nomatch hz) rfl (by decide) q1558 q417 ?_
      refine lv_astore_n (lv' := [(3, .ref q_5), (0, .ref x0), (1, .int x1), (2, .ref x2)]) hx hb dX0_routeMinutes_12 rfl hl (by decide) rfl (fun ls hl => ?_)
      refine lv_iconst (v := 1) hx hb dX0_routeMinutes_13 (by decide) ?_
      cases os hf
      exact x_ret (r_iret X I dX0_routeMinutes_14)
    · have hf := im cc_7_E22 hf
      exact nomatch hf
theorem mX0_routeMinutes {E : EV} {l : Launch} {N : Nat} {σ : St} {x0 : Nat} {x1 : Int32} {x2 : Nat} {res : (Int32 × St)} (hX : XK E) (hS : l.stackTraces = false) (hf : fX0_routeMinutes N σ x0 x1 x2 = some res) : CX E l yX0_routeMinutes (wsW_ yX0_routeMinutes cX0_routeMinutes 4 (some .int) [(0, 9, 12, 18)]) 9 152 [.ref x0, .int x1, .ref x2] σ (some (some (.int res.1))) none res.2 := by
  refine CX.ofH hX.1 (by decide) rfl rfl (Nat.le_of_ble_eq_true rfl) ?_
  intro p e s m below meth c X XH I ls hl
  exact wX0_routeMinutes_0 hX ⟨Nat.le_refl _, Nat.le_refl _⟩ X XH hS N _ _ _ _ _ _ _ _ _ I hl hf
/-! SharedTaxis.rides(I)I imp=True fuel=True kap=False rt=I thr=True -/
def fX1_rides (N : Nat) (σ : St) (x0 : Nat) (x1 : Int32) : Option ((Int32 ⊕ Nat) × St) := (fX1_inRange σ (x1.toInt64) (0 : Int64) (6 : Int64)).bind fun v_1 : Int32 => (fX1_require σ v_1).bind fun (v_3, σ_4) => se v_3 (fun v_5 => (gR σ_4 x0 [(0, 3)]).bind fun v_7 : Option Nat => (v_7).bind fun a_8 : Nat => (isC σ_4 a_8 1).bind fun u_9 : Unit => (fX2_ridesIn N σ_4 a_8 x1).bind fun v_10 : Int32 => some (.inl v_10, σ_4)) (fun q_6 => (isX σ_4 q_6).bind fun uq_6 : Unit => some (.inr q_6, σ_4))
theorem wX1_rides_0 {E : EV} {l : Launch} {p : Program} {e : Env} {s : State} {m : MethodId} {args : Array Value} {below : List Frame} {meth : Method} {c : Code} {R : Room} {res : ((Int32 ⊕ Nat) × St)} (hX : XK E) (hR : 7 ≤ R.frames ∧ 109 ≤ R.locals) (X : MX E p s m args meth c cX1_rides 2 (some .int) RX1 "rides") (XH : MH c []) (hS : l.stackTraces = false) (N : Nat) : ∀ (x0 : Nat) (x1 : Int32) (σ : St) (H : Heap) (locs : List Loc) (cells slots : Nat) (ls : Array Slot), WI E R s σ H locs cells slots → lv_has ls 2 [(0, .ref x0), (1, .int x1)] → fX1_rides N σ x0 x1 = some res → W p l e R s m args below meth c H locs cells slots (vx_MQ below (QS E R.cells R.slots (sv (fun v => (some (.int v))) res.1) res.2) (XS E R.cells R.slots (sx res.1) res.2) args s R.cells R.slots (fr E)) (F0 m 0 ls []) := by
  intro x0 x1 σ H locs cells slots ls I hl hf
  obtain ⟨⟨hx, hb, hml, hown, hts⟩, -⟩ := id X
  unfold fX1_rides at hf
  refine lv_iload_n hx hb dX1_rides_0 rfl (lv_at hl 1 rfl) ?_
  refine lv_i2l hx hb dX1_rides_1 rfl ?_
  refine lv_lconst (v := 0) hx hb dX1_rides_2 (by decide) ?_
  refine lv_ldc2 (v := 6) hx hb hown (hts _ q2044) dX1_rides_3 ?_
  obtain ⟨v_1, ev_1, hf⟩ := ob hf
  refine cg_S (r := (some (.int v_1))) (σ' := σ) (rs := [.int v_1]) (rest := []) (As := [.long (x1.toInt64), .long (0 : Int64), .long (6 : Int64)]) X I (mX1_inRange hX ev_1) lvX1_125 hdX1_125 ⟨Nat.le_trans (Nat.le_of_ble_eq_true rfl) hR.1, Nat.le_trans (Nat.le_of_ble_eq_true rfl) hR.2⟩ rfl hl.1 rfl (Nat.le_of_ble_eq_true rfl) rfl dX1_rides_6 (fun H locs cells slots I => ?_)
  obtain ⟨⟨v_3, σ_4⟩, ev_3, hf⟩ := ob hf
  have hgv_3 := hf
  rcases v_3 with v_5 | q_6
  · have hf := se_l hgv_3
    refine cx_ret (r := none) (rs := []) I (xr_S (σ' := σ_4) (rest := []) (As := [.int v_1]) X I (mX1_require hX hS ev_3) lvX1_158 hdX1_158 ⟨Nat.le_trans (Nat.le_of_ble_eq_true rfl) hR.1, Nat.le_trans (Nat.le_of_ble_eq_true rfl) hR.2⟩ rfl hl.1 rfl (Nat.le_of_ble_eq_true rfl) dX1_rides_9) rfl (fun H locs cells slots I => ?_)
    refine lv_aload_n hx hb dX1_rides_12 rfl (lv_at hl 0 rfl) ?_
    obtain ⟨v_7, ev_7, hf⟩ := ob hf
    refine g_get X I gfX1_87 (gR_in ev_7) dX1_rides_13 ?_
    refine lv_iload_n hx hb dX1_rides_16 rfl (lv_at hl 1 rfl) ?_
    obtain ⟨a_8, ea_8, hga_8⟩ := ob hf
    have hla_8 := hl
    have Ia_8 := I
    subst ea_8
    have hf := hga_8
    have hl := hla_8
    have I := Ia_8
    obtain ⟨u_9, eu_9, hf⟩ := ob hf
    obtain ⟨v_10, ev_10, hf⟩ := ob hf
    refine cg_V (vw := (RX2, TX2, 7)) (ci := 1) (r := (some (.int v_10))) (σ' := σ_4) (rs := [.int v_10]) (rest := []) (As := [.int x1]) X I eu_9 rfl (mX2_ridesIn hX ev_10) lvX1_212 hdX1_212 ⟨Nat.le_trans (Nat.le_of_ble_eq_true rfl) hR.1, Nat.le_trans (Nat.le_of_ble_eq_true rfl) hR.2⟩ rfl hl.1 rfl (Nat.le_of_ble_eq_true rfl) rfl dX1_rides_17 (fun H locs cells slots I => ?_)
    cases os hf
    exact x_ret (r_iret X I dX1_rides_20)
  · have hf := se_r hgv_3
    obtain ⟨uq_6, eq_6, hf⟩ := ob hf
    cases os hf
    refine cx_thr I (xr_S (σ' := σ_4) (rest := []) (As := [.int v_1]) X I (mX1_require hX hS ev_3) lvX1_158 hdX1_158 ⟨Nat.le_trans (Nat.le_of_ble_eq_true rfl) hR.1, Nat.le_trans (Nat.le_of_ble_eq_true rfl) hR.2⟩ rfl hl.1 rfl (Nat.le_of_ble_eq_true rfl) dX1_rides_9) (fun H locs cells slots I => ?_)
    exact x_out X XH rfl I eq_6
theorem mX1_rides {E : EV} {l : Launch} {N : Nat} {σ : St} {x0 : Nat} {x1 : Int32} {res : ((Int32 ⊕ Nat) × St)} (hX : XK E) (hS : l.stackTraces = false) (hf : fX1_rides N σ x0 x1 = some res) : CX E l yX1_rides (ws_ yX1_rides cX1_rides 2 (some .int)) 7 109 [.ref x0, .int x1] σ (sv (fun v => (some (.int v))) res.1) (sx res.1) res.2 := by
  refine CX.of hX.1 (by decide) rfl rfl (Nat.le_of_ble_eq_true rfl) ?_
  intro p e s m below meth c X XH I ls hl
  exact wX1_rides_0 hX ⟨Nat.le_refl _, Nat.le_refl _⟩ X XH hS N _ _ _ _ _ _ _ _ I hl hf
/-! SharedTaxisLaw.rides(LSharedTaxis;I[J)I imp=True fuel=True kap=False rt=I thr=False -/
theorem lvX0_59 : GoodIn lw_all (wsV RX0 59 RX1 yX1_rides (ws_ yX1_rides cX1_rides 2 (some .int))) := lw_V q2040 q2041 q2042 q113 q2043
theorem hdX0_59 : yX1_rides.cls = RX1 ∧ yX1_rides.cls ≠ "java/lang/invoke/MethodHandle" ∧ yX1_rides.cls ≠ "java/lang/invoke/VarHandle" ∧ (parseMethodDescriptor yX1_rides.desc).map (fun d => d.parameters.length) = some 1 := by decide +kernel
def fX0_rides (N : Nat) (σ : St) (x0 : Nat) (x1 : Int32) (x2 : Nat) : Option (Int32 × St) := (isC σ x0 0).bind fun u_1 : Unit => (fX1_rides N σ x0 x1).bind fun (v_2, σ_3) => se v_2 (fun v_4 => (sJ σ_3 x2 (0 : Int32) (v_4.toInt64)).bind fun σ_6 : St => some ((0 : Int32), σ_6)) (fun q_5 => (clsX σ_3 q_5).bind fun c_7 : Nat => if c_7 = 35 then some ((1 : Int32), σ_3) else none)
theorem wX0_rides_0 {E : EV} {l : Launch} {p : Program} {e : Env} {s : State} {m : MethodId} {args : Array Value} {below : List Frame} {meth : Method} {c : Code} {R : Room} {res : (Int32 × St)} (hX : XK E) (hR : 8 ≤ R.frames ∧ 130 ≤ R.locals) (X : MX E p s m args meth c cX0_rides 4 (some .int) RX0 "rides") (XH : MH c [(0, 9, 12, 13)]) (hS : l.stackTraces = false) (N : Nat) : ∀ (x0 : Nat) (x1 : Int32) (x2 : Nat) (σ : St) (H : Heap) (locs : List Loc) (cells slots : Nat) (ls : Array Slot), WI E R s σ H locs cells slots → lv_has ls 4 [(0, .ref x0), (1, .int x1), (2, .ref x2)] → fX0_rides N σ x0 x1 x2 = some res → W p l e R s m args below meth c H locs cells slots (vx_MQ below (QS E R.cells R.slots (some (some (.int res.1))) res.2) (XS E R.cells R.slots none res.2) args s R.cells R.slots (fr E)) (F0 m 0 ls []) := by
  intro x0 x1 x2 σ H locs cells slots ls I hl hf
  obtain ⟨⟨hx, hb, hml, hown, hts⟩, -⟩ := id X
  unfold fX0_rides at hf
  refine lv_aload_n hx hb dX0_rides_0 rfl (lv_at hl 2 rfl) ?_
  refine lv_iconst (v := 0) hx hb dX0_rides_1 (by decide) ?_
  refine lv_aload_n hx hb dX0_rides_2 rfl (lv_at hl 0 rfl) ?_
  refine lv_iload_n hx hb dX0_rides_3 rfl (lv_at hl 1 rfl) ?_
  obtain ⟨u_1, eu_1, hf⟩ := ob hf
  obtain ⟨⟨v_2, σ_3⟩, ev_2, hf⟩ := ob hf
  have hgv_2 := hf
  rcases v_2 with v_4 | q_5
  · have hf := se_l hgv_2
    refine cx_ret (r := (some (.int v_4))) (rs := [.int v_4, .int (0 : Int32), .ref x2]) I (xr_V (vw := (RX1, TX1, 7)) (ci := 0) (σ' := σ_3) (rest := [.int (0 : Int32), .ref x2]) (As := [.int x1]) X I eu_1 rfl (mX1_rides hX hS ev_2) lvX0_59 hdX0_59 ⟨Nat.le_trans (Nat.le_of_ble_eq_true rfl) hR.1, Nat.le_trans (Nat.le_of_ble_eq_true rfl) hR.2⟩ rfl hl.1 rfl (Nat.le_of_ble_eq_true rfl) dX0_rides_4) rfl (fun H locs cells slots I => ?_)
    refine lv_i2l hx hb dX0_rides_7 rfl ?_
    obtain ⟨σ_6, eσ_6, hf⟩ := ob hf
    refine g_last X I eσ_6 dX0_rides_8 (fun H locs I => ?_)
    refine lv_goto (tgt := 15) hx hb dX0_rides_9 (by decide) ?_
    refine lv_iconst (v := 0) hx hb dX0_rides_15 (by decide) ?_
    cases os hf
    exact x_ret (r_iret X I dX0_rides_16)
  · have hf := se_r hgv_2
    obtain ⟨c_7, ec_7, hf⟩ := ob hf
    refine cx_thr I (xr_V (vw := (RX1, TX1, 7)) (ci := 0) (σ' := σ_3) (rest := [.int (0 : Int32), .ref x2]) (As := [.int x1]) X I eu_1 rfl (mX1_rides hX hS ev_2) lvX0_59 hdX0_59 ⟨Nat.le_trans (Nat.le_of_ble_eq_true rfl) hR.1, Nat.le_trans (Nat.le_of_ble_eq_true rfl) hR.2⟩ rfl hl.1 rfl (Nat.le_of_ble_eq_true rfl) dX0_rides_4) (fun H locs cells slots I => ?_)
    by_cases cc_7_E7 : c_7 = 35
    · have hf := ip cc_7_E7 hf
      refine x_catch (vw := (RJ7, TJ7, 0)) hX X XH I (cc_7_E7 ▸ ec_7) rfl ((tableOf [(0, 9, 12, 13)]).take 0) _ _ rfl (fun z hz => nomatch hz) rfl (by decide) q1197 q723 ?_
      refine lv_astore_n (lv' := [(3, .ref q_5), (0, .ref x0), (1, .int x1), (2, .ref x2)]) hx hb dX0_rides_12 rfl hl (by decide) rfl (fun ls hl => ?_)
      refine lv_iconst (v := 1) hx hb dX0_rides_13 (by decide) ?_
      cases os hf
      exact x_ret (r_iret X I dX0_rides_14)
    · have hf := im cc_7_E7 hf
      exact nomatch hf
theorem mX0_rides {E : EV} {l : Launch} {N : Nat} {σ : St} {x0 : Nat} {x1 : Int32} {x2 : Nat} {res : (Int32 × St)} (hX : XK E) (hS : l.stackTraces = false) (hf : fX0_rides N σ x0 x1 x2 = some res) : CX E l yX0_rides (wsW_ yX0_rides cX0_rides 4 (some .int) [(0, 9, 12, 13)]) 8 130 [.ref x0, .int x1, .ref x2] σ (some (some (.int res.1))) none res.2 := by
  refine CX.ofH hX.1 (by decide) rfl rfl (Nat.le_of_ble_eq_true rfl) ?_
  intro p e s m below meth c X XH I ls hl
  exact wX0_rides_0 hX ⟨Nat.le_refl _, Nat.le_refl _⟩ X XH hS N _ _ _ _ _ _ _ _ _ I hl hf
/-! SharedTaxis$Ride.<init>(IIIIIIII)V imp=True fuel=False kap=False rt=None thr=False -/
theorem pfX16_9 : ∀ q ∈ ([(14, 9)] : List (Nat × Nat)), PF RX16 9 .int q := List.forall_mem_cons.mpr ⟨⟨RX16, TX16, 15, _, tyX16, rfl, in_X16, by decide, q1133, Or.inl rfl, tyX16_ok, nmX16, rfl, rfl⟩, fun _ h => by cases h⟩
theorem pfX16_15 : ∀ q ∈ ([(14, 10)] : List (Nat × Nat)), PF RX16 15 .int q := List.forall_mem_cons.mpr ⟨⟨RX16, TX16, 15, _, tyX16, rfl, in_X16, by decide, q1135, Or.inl rfl, tyX16_ok, nmX16, rfl, rfl⟩, fun _ h => by cases h⟩
theorem pfX16_18 : ∀ q ∈ ([(14, 11)] : List (Nat × Nat)), PF RX16 18 .int q := List.forall_mem_cons.mpr ⟨⟨RX16, TX16, 15, _, tyX16, rfl, in_X16, by decide, q1139, Or.inl rfl, tyX16_ok, nmX16, rfl, rfl⟩, fun _ h => by cases h⟩
theorem pfX16_21 : ∀ q ∈ ([(14, 0)] : List (Nat × Nat)), PI RX16 21 .int q := List.forall_mem_cons.mpr ⟨⟨RX16, TX16, 15, tyX16, rfl, in_X16, by decide, q1105, rfl, tyX16_ok, nmX16, rfl, rfl⟩, fun _ h => by cases h⟩
theorem pfX16_24 : ∀ q ∈ ([(14, 1)] : List (Nat × Nat)), PI RX16 24 .int q := List.forall_mem_cons.mpr ⟨⟨RX16, TX16, 15, tyX16, rfl, in_X16, by decide, q1107, rfl, tyX16_ok, nmX16, rfl, rfl⟩, fun _ h => by cases h⟩
theorem pfX16_27 : ∀ q ∈ ([(14, 2)] : List (Nat × Nat)), PI RX16 27 .int q := List.forall_mem_cons.mpr ⟨⟨RX16, TX16, 15, tyX16, rfl, in_X16, by decide, q1111, rfl, tyX16_ok, nmX16, rfl, rfl⟩, fun _ h => by cases h⟩
theorem pfX16_30 : ∀ q ∈ ([(14, 3)] : List (Nat × Nat)), PI RX16 30 .int q := List.forall_mem_cons.mpr ⟨⟨RX16, TX16, 15, tyX16, rfl, in_X16, by decide, q1115, rfl, tyX16_ok, nmX16, rfl, rfl⟩, fun _ h => by cases h⟩
theorem pfX16_33 : ∀ q ∈ ([(14, 4)] : List (Nat × Nat)), PI RX16 33 .int q := List.forall_mem_cons.mpr ⟨⟨RX16, TX16, 15, tyX16, rfl, in_X16, by decide, q1119, rfl, tyX16_ok, nmX16, rfl, rfl⟩, fun _ h => by cases h⟩
theorem pfX16_36 : ∀ q ∈ ([(14, 5)] : List (Nat × Nat)), PI RX16 36 .int q := List.forall_mem_cons.mpr ⟨⟨RX16, TX16, 15, tyX16, rfl, in_X16, by decide, q1122, rfl, tyX16_ok, nmX16, rfl, rfl⟩, fun _ h => by cases h⟩
theorem pfX16_39 : ∀ q ∈ ([(14, 6)] : List (Nat × Nat)), PI RX16 39 .int q := List.forall_mem_cons.mpr ⟨⟨RX16, TX16, 15, tyX16, rfl, in_X16, by decide, q1125, rfl, tyX16_ok, nmX16, rfl, rfl⟩, fun _ h => by cases h⟩
theorem pfX16_42 : ∀ q ∈ ([(14, 7)] : List (Nat × Nat)), PI RX16 42 .int q := List.forall_mem_cons.mpr ⟨⟨RX16, TX16, 15, tyX16, rfl, in_X16, by decide, q1127, rfl, tyX16_ok, nmX16, rfl, rfl⟩, fun _ h => by cases h⟩
def fX16_init_2 (σ : St) (x0 : Nat) (x1 : Int32) (x2 : Int32) (x3 : Int32) (x4 : Int32) (x5 : Int32) (x6 : Int32) (x7 : Int32) (x8 : Int32) : Option St := (pV σ x0 [(14, 9)] (.int (-1 : Int32))).bind fun σ_1 : St => (pV σ_1 x0 [(14, 10)] (.int (-1 : Int32))).bind fun σ_2 : St => (pV σ_2 x0 [(14, 11)] (.int (-1 : Int32))).bind fun σ_3 : St => (pV σ_3 x0 [(14, 0)] (.int x1)).bind fun σ_4 : St => (pV σ_4 x0 [(14, 1)] (.int x2)).bind fun σ_5 : St => (pV σ_5 x0 [(14, 2)] (.int x3)).bind fun σ_6 : St => (pV σ_6 x0 [(14, 3)] (.int x4)).bind fun σ_7 : St => (pV σ_7 x0 [(14, 4)] (.int x5)).bind fun σ_8 : St => (pV σ_8 x0 [(14, 5)] (.int x6)).bind fun σ_9 : St => (pV σ_9 x0 [(14, 6)] (.int x7)).bind fun σ_10 : St => (pV σ_10 x0 [(14, 7)] (.int x8)).bind fun σ_11 : St => some σ_11
theorem wX16_init_2_0 {E : EV} {l : Launch} {p : Program} {e : Env} {s : State} {m : MethodId} {args : Array Value} {below : List Frame} {meth : Method} {c : Code} {R : Room} {res : St} (hX : XK E) (hR : 1 ≤ R.frames ∧ 20 ≤ R.locals) (X : MX E p s m args meth c cX16_init_2 9 none RX16 "<init>") : ∀ (x0 : Nat) (x1 : Int32) (x2 : Int32) (x3 : Int32) (x4 : Int32) (x5 : Int32) (x6 : Int32) (x7 : Int32) (x8 : Int32) (σ : St) (H : Heap) (locs : List Loc) (cells slots : Nat) (ls : Array Slot), WI E R s σ H locs cells slots → lv_has ls 9 [(0, .ref x0), (1, .int x1), (2, .int x2), (3, .int x3), (4, .int x4), (5, .int x5), (6, .int x6), (7, .int x7), (8, .int x8)] → fX16_init_2 σ x0 x1 x2 x3 x4 x5 x6 x7 x8 = some res → W p l e R s m args below meth c H locs cells slots (MQ below (Qd E R.cells R.slots none res) args s R.cells R.slots (fr E)) (F0 m 0 ls []) := by
  intro x0 x1 x2 x3 x4 x5 x6 x7 x8 σ H locs cells slots ls I hl hf
  obtain ⟨⟨hx, hb, hml, hown, hts⟩, -⟩ := id X
  unfold fX16_init_2 at hf
  refine lv_aload_n hx hb dX16_init_2_0 rfl (lv_at hl 0 rfl) ?_
  refine g_objInit X ⟨Nat.le_trans (Nat.le_of_ble_eq_true rfl) hR.1, Nat.le_trans (Nat.le_of_ble_eq_true rfl) hR.2⟩ q1104 hl.1 (Nat.le_of_ble_eq_true rfl) dX16_init_2_1 ?_
  refine lv_aload_n hx hb dX16_init_2_4 rfl (lv_at hl 0 rfl) ?_
  refine lv_iconst (v := (-1)) hx hb dX16_init_2_5 (by decide) ?_
  obtain ⟨σ_1, eσ_1, hf⟩ := ob hf
  refine g_put X I pfX16_9 rfl rfl eσ_1 dX16_init_2_6 (fun H locs I => ?_)
  refine lv_aload_n hx hb dX16_init_2_9 rfl (lv_at hl 0 rfl) ?_
  refine lv_iconst (v := (-1)) hx hb dX16_init_2_10 (by decide) ?_
  obtain ⟨σ_2, eσ_2, hf⟩ := ob hf
  refine g_put X I pfX16_15 rfl rfl eσ_2 dX16_init_2_11 (fun H locs I => ?_)
  refine lv_aload_n hx hb dX16_init_2_14 rfl (lv_at hl 0 rfl) ?_
  refine lv_iconst (v := (-1)) hx hb dX16_init_2_15 (by decide) ?_
  obtain ⟨σ_3, eσ_3, hf⟩ := ob hf
  refine g_put X I pfX16_18 rfl rfl eσ_3 dX16_init_2_16 (fun H locs I => ?_)
  refine lv_aload_n hx hb dX16_init_2_19 rfl (lv_at hl 0 rfl) ?_
  refine lv_iload_n hx hb dX16_init_2_20 rfl (lv_at hl 1 rfl) ?_
  obtain ⟨σ_4, eσ_4, hf⟩ := ob hf
  refine g_putI X I pfX16_21 rfl rfl eσ_4 dX16_init_2_21 (fun H locs I => ?_)
  refine lv_aload_n hx hb dX16_init_2_24 rfl (lv_at hl 0 rfl) ?_
  refine lv_iload_n hx hb dX16_init_2_25 rfl (lv_at hl 2 rfl) ?_
  obtain ⟨σ_5, eσ_5, hf⟩ := ob hf
  refine g_putI X I pfX16_24 rfl rfl eσ_5 dX16_init_2_26 (fun H locs I => ?_)
  refine lv_aload_n hx hb dX16_init_2_29 rfl (lv_at hl 0 rfl) ?_
  refine lv_iload_n hx hb dX16_init_2_30 rfl (lv_at hl 3 rfl) ?_
  obtain ⟨σ_6, eσ_6, hf⟩ := ob hf
  refine g_putI X I pfX16_27 rfl rfl eσ_6 dX16_init_2_31 (fun H locs I => ?_)
  refine lv_aload_n hx hb dX16_init_2_34 rfl (lv_at hl 0 rfl) ?_
  refine lv_iload hx hb dX16_init_2_35 (lv_at hl 4 rfl) ?_
  obtain ⟨σ_7, eσ_7, hf⟩ := ob hf
  refine g_putI X I pfX16_30 rfl rfl eσ_7 dX16_init_2_37 (fun H locs I => ?_)
  refine lv_aload_n hx hb dX16_init_2_40 rfl (lv_at hl 0 rfl) ?_
  refine lv_iload hx hb dX16_init_2_41 (lv_at hl 5 rfl) ?_
  obtain ⟨σ_8, eσ_8, hf⟩ := ob hf
  refine g_putI X I pfX16_33 rfl rfl eσ_8 dX16_init_2_43 (fun H locs I => ?_)
  refine lv_aload_n hx hb dX16_init_2_46 rfl (lv_at hl 0 rfl) ?_
  refine lv_iload hx hb dX16_init_2_47 (lv_at hl 6 rfl) ?_
  obtain ⟨σ_9, eσ_9, hf⟩ := ob hf
  refine g_putI X I pfX16_36 rfl rfl eσ_9 dX16_init_2_49 (fun H locs I => ?_)
  refine lv_aload_n hx hb dX16_init_2_52 rfl (lv_at hl 0 rfl) ?_
  refine lv_iload hx hb dX16_init_2_53 (lv_at hl 7 rfl) ?_
  obtain ⟨σ_10, eσ_10, hf⟩ := ob hf
  refine g_putI X I pfX16_39 rfl rfl eσ_10 dX16_init_2_55 (fun H locs I => ?_)
  refine lv_aload_n hx hb dX16_init_2_58 rfl (lv_at hl 0 rfl) ?_
  refine lv_iload hx hb dX16_init_2_59 (lv_at hl 8 rfl) ?_
  obtain ⟨σ_11, eσ_11, hf⟩ := ob hf
  refine g_putI X I pfX16_42 rfl rfl eσ_11 dX16_init_2_61 (fun H locs I => ?_)
  cases os hf
  exact r_vret X I dX16_init_2_64
theorem mX16_init_2 {E : EV} {l : Launch} {σ : St} {x0 : Nat} {x1 : Int32} {x2 : Int32} {x3 : Int32} {x4 : Int32} {x5 : Int32} {x6 : Int32} {x7 : Int32} {x8 : Int32} {res : St} (hX : XK E) (hf : fX16_init_2 σ x0 x1 x2 x3 x4 x5 x6 x7 x8 = some res) : CM E l yX16_init_2 (ws_ yX16_init_2 cX16_init_2 9 none) 1 20 [.ref x0, .int x1, .int x2, .int x3, .int x4, .int x5, .int x6, .int x7, .int x8] σ none res := by
  refine CM.of hX.1 (by decide) rfl rfl (Nat.le_of_ble_eq_true rfl) ?_
  intro p e s m below meth c X I ls hl
  exact wX16_init_2_0 hX ⟨Nat.le_refl _, Nat.le_refl _⟩ X _ _ _ _ _ _ _ _ _ _ _ _ _ _ _ I hl hf
/-! java/util/ArrayDeque.sub(III)I imp=False fuel=False kap=False rt=I thr=False -/
def fJ3_sub (σ : St) (x0 : Int32) (x1 : Int32) (x2 : Int32) : Option Int32 := lt (x0 - x1) fun x0_1 : Int32 => if 0 ≤ (x0 - x1) then some x0_1 else lt (x0_1 + x2) fun x0_2 : Int32 => some x0_2
theorem wJ3_sub_0 {E : EV} {l : Launch} {p : Program} {e : Env} {s : State} {m : MethodId} {args : Array Value} {below : List Frame} {meth : Method} {c : Code} {R : Room} {σ : St} {res : Int32} (hX : XK E) (hR : 0 ≤ R.frames ∧ 0 ≤ R.locals) (X : MX E p s m args meth c cJ3_sub 3 (some .int) RJ3 "sub") : ∀ (x0 : Int32) (x1 : Int32) (x2 : Int32) (H : Heap) (locs : List Loc) (cells slots : Nat) (ls : Array Slot), WI E R s σ H locs cells slots → lv_has ls 3 [(0, .int x0), (1, .int x1), (2, .int x2)] → fJ3_sub σ x0 x1 x2 = some res → W p l e R s m args below meth c H locs cells slots (MQ below (Qd E R.cells R.slots (some (.int res)) σ) args s R.cells R.slots (fr E)) (F0 m 0 ls []) := by
  intro x0 x1 x2 H locs cells slots ls I hl hf
  obtain ⟨⟨hx, hb, hml, hown, hts⟩, -⟩ := id X
  unfold fJ3_sub at hf
  refine lv_iload_n hx hb dJ3_sub_0 rfl (lv_at hl 0 rfl) ?_
  refine lv_iload_n hx hb dJ3_sub_1 rfl (lv_at hl 1 rfl) ?_
  refine lv_isub hx hb dJ3_sub_2 ?_
  refine lv_dup hx hb dJ3_sub_3 rfl ?_
  obtain ⟨x0_1, ex0_1, hf⟩ := ol hf
  refine nm_i ex0_1 ?_
  refine lv_istore_n (lv' := [(0, .int x0_1), (1, .int x1), (2, .int x2)]) hx hb dJ3_sub_4 rfl hl (by decide) rfl (fun ls hl => ?_)
  refine lv_if_ge (tgt := 12) hx hb dJ3_sub_5 (by decide) (fun c_5 => ?_) (fun c_5 => ?_)
  · have hf := ip c_5 hf
    refine lv_iload_n hx hb dJ3_sub_12 rfl (lv_at hl 0 rfl) ?_
    cases os hf
    exact r_iret X I dJ3_sub_13
  · have hf := im c_5 hf
    refine lv_iload_n hx hb dJ3_sub_8 rfl (lv_at hl 0 rfl) ?_
    refine lv_iload_n hx hb dJ3_sub_9 rfl (lv_at hl 2 rfl) ?_
    refine lv_iadd hx hb dJ3_sub_10 ?_
    obtain ⟨x0_2, ex0_2, hf⟩ := ol hf
    refine nm_i ex0_2 ?_
    refine lv_istore_n (lv' := [(0, .int x0_2), (1, .int x1), (2, .int x2)]) hx hb dJ3_sub_11 rfl hl (by decide) rfl (fun ls hl => ?_)
    refine lv_iload_n hx hb dJ3_sub_12 rfl (lv_at hl 0 rfl) ?_
    cases os hf
    exact r_iret X I dJ3_sub_13
theorem mJ3_sub {E : EV} {l : Launch} {σ : St} {x0 : Int32} {x1 : Int32} {x2 : Int32} {res : Int32} (hX : XK E) (hf : fJ3_sub σ x0 x1 x2 = some res) : CM E l yJ3_sub (ws_ yJ3_sub cJ3_sub 3 (some .int)) 0 0 [.int x0, .int x1, .int x2] σ (some (.int res)) σ := by
  refine CM.of hX.1 (by decide) rfl rfl (Nat.le_of_ble_eq_true rfl) ?_
  intro p e s m below meth c X I ls hl
  exact wJ3_sub_0 hX ⟨Nat.le_refl _, Nat.le_refl _⟩ X _ _ _ _ _ _ _ _ I hl hf
/-! java/util/ArrayDeque.size()I imp=False fuel=False kap=False rt=I thr=False -/
theorem lvJ3_127 : GoodIn lw_all (va_wsS RJ3 127 yJ3_sub (ws_ yJ3_sub cJ3_sub 3 (some .int))) := lw_S q844 q845 q119 q846
theorem hdJ3_127 : yJ3_sub.cls ≠ "java/lang/invoke/MethodHandle" ∧ yJ3_sub.cls ≠ "java/lang/invoke/VarHandle" ∧ (parseMethodDescriptor yJ3_sub.desc).map (fun d => d.parameters.length) = some 3 := by decide +kernel
def fJ3_size (σ : St) (x0 : Nat) : Option Int32 := (gI σ x0 [(22, 2)]).bind fun v_1 : Int32 => (gI σ x0 [(22, 1)]).bind fun v_2 : Int32 => (gR σ x0 [(22, 0)]).bind fun v_3 : Option Nat => (v_3).bind fun a_4 : Nat => (aL σ a_4).bind fun v_5 : Int32 => (fJ3_sub σ v_1 v_2 v_5).bind fun v_6 : Int32 => some v_6
theorem wJ3_size_0 {E : EV} {l : Launch} {p : Program} {e : Env} {s : State} {m : MethodId} {args : Array Value} {below : List Frame} {meth : Method} {c : Code} {R : Room} {σ : St} {res : Int32} (hX : XK E) (hR : 1 ≤ R.frames ∧ 22 ≤ R.locals) (X : MX E p s m args meth c cJ3_size 1 (some .int) RJ3 "size") : ∀ (x0 : Nat) (H : Heap) (locs : List Loc) (cells slots : Nat) (ls : Array Slot), WI E R s σ H locs cells slots → lv_has ls 1 [(0, .ref x0)] → fJ3_size σ x0 = some res → W p l e R s m args below meth c H locs cells slots (MQ below (Qd E R.cells R.slots (some (.int res)) σ) args s R.cells R.slots (fr E)) (F0 m 0 ls []) := by
  intro x0 H locs cells slots ls I hl hf
  obtain ⟨⟨hx, hb, hml, hown, hts⟩, -⟩ := id X
  unfold fJ3_size at hf
  refine lv_aload_n hx hb dJ3_size_0 rfl (lv_at hl 0 rfl) ?_
  obtain ⟨v_1, ev_1, hf⟩ := ob hf
  refine g_get X I gfJ3_20 (gI_in ev_1) dJ3_size_1 ?_
  refine lv_aload_n hx hb dJ3_size_4 rfl (lv_at hl 0 rfl) ?_
  obtain ⟨v_2, ev_2, hf⟩ := ob hf
  refine g_get X I gfJ3_24 (gI_in ev_2) dJ3_size_5 ?_
  refine lv_aload_n hx hb dJ3_size_8 rfl (lv_at hl 0 rfl) ?_
  obtain ⟨v_3, ev_3, hf⟩ := ob hf
  refine g_get X I gfJ3_3 (gR_in ev_3) dJ3_size_9 ?_
  obtain ⟨a_4, ea_4, hga_4⟩ := ob hf
  have hla_4 := hl
  have Ia_4 := I
  subst ea_4
  have hf := hga_4
  have hl := hla_4
  have I := Ia_4
  obtain ⟨v_5, ev_5, hf⟩ := ob hf
  refine g_alen X I ev_5 dJ3_size_12 ?_
  obtain ⟨v_6, ev_6, hf⟩ := ob hf
  refine cg_S (r := (some (.int v_6))) (σ' := σ) (rs := [.int v_6]) (rest := []) (As := [.int v_1, .int v_2, .int v_5]) X I (mJ3_sub hX ev_6) lvJ3_127 hdJ3_127 ⟨Nat.le_trans (Nat.le_of_ble_eq_true rfl) hR.1, Nat.le_trans (Nat.le_of_ble_eq_true rfl) hR.2⟩ rfl hl.1 rfl (Nat.le_of_ble_eq_true rfl) rfl dJ3_size_13 (fun H locs cells slots I => ?_)
  cases os hf
  exact r_iret X I dJ3_size_16
theorem mJ3_size {E : EV} {l : Launch} {σ : St} {x0 : Nat} {res : Int32} (hX : XK E) (hf : fJ3_size σ x0 = some res) : CM E l yJ3_size (ws_ yJ3_size cJ3_size 1 (some .int)) 1 22 [.ref x0] σ (some (.int res)) σ := by
  refine CM.of hX.1 (by decide) rfl rfl (Nat.le_of_ble_eq_true rfl) ?_
  intro p e s m below meth c X I ls hl
  exact wJ3_size_0 hX ⟨Nat.le_refl _, Nat.le_refl _⟩ X _ _ _ _ _ _ I hl hf
/-! java/util/ArrayDeque.elementAt([Ljava/lang/Object;I)Ljava/lang/Object; imp=False fuel=False kap=False rt=O thr=False -/
def fJ3_elementAt (σ : St) (x0 : Nat) (x1 : Int32) : Option (Option Nat) := (aR σ x0 3 x1).bind fun v_1 : Option Nat => some (v_1)
theorem wJ3_elementAt_0 {E : EV} {l : Launch} {p : Program} {e : Env} {s : State} {m : MethodId} {args : Array Value} {below : List Frame} {meth : Method} {c : Code} {R : Room} {σ : St} {res : (Option Nat)} (hX : XK E) (hR : 0 ≤ R.frames ∧ 0 ≤ R.locals) (X : MX E p s m args meth c cJ3_elementAt 2 (some (.object "java/lang/Object")) RJ3 "elementAt") : ∀ (x0 : Nat) (x1 : Int32) (H : Heap) (locs : List Loc) (cells slots : Nat) (ls : Array Slot), WI E R s σ H locs cells slots → lv_has ls 2 [(0, .ref x0), (1, .int x1)] → fJ3_elementAt σ x0 x1 = some res → W p l e R s m args below meth c H locs cells slots (MQ below (Qd E R.cells R.slots (some (va_rf res)) σ) args s R.cells R.slots (fr E)) (F0 m 0 ls []) := by
  intro x0 x1 H locs cells slots ls I hl hf
  obtain ⟨⟨hx, hb, hml, hown, hts⟩, -⟩ := id X
  unfold fJ3_elementAt at hf
  refine lv_aload_n hx hb dJ3_elementAt_0 rfl (lv_at hl 0 rfl) ?_
  refine lv_iload_n hx hb dJ3_elementAt_1 rfl (lv_at hl 1 rfl) ?_
  obtain ⟨v_1, ev_1, hf⟩ := ob hf
  refine g_aald X I (by decide) rfl ev_1 dJ3_elementAt_2 ?_
  cases os hf
  exact r_aret X I (Or.inl ⟨_, rfl⟩) (rf_or _) dJ3_elementAt_3
theorem mJ3_elementAt {E : EV} {l : Launch} {σ : St} {x0 : Nat} {x1 : Int32} {res : (Option Nat)} (hX : XK E) (hf : fJ3_elementAt σ x0 x1 = some res) : CM E l yJ3_elementAt (ws_ yJ3_elementAt cJ3_elementAt 2 (some (.object "java/lang/Object"))) 0 0 [.ref x0, .int x1] σ (some (va_rf res)) σ := by
  refine CM.of hX.1 (by decide) rfl rfl (Nat.le_of_ble_eq_true rfl) ?_
  intro p e s m below meth c X I ls hl
  exact wJ3_elementAt_0 hX ⟨Nat.le_refl _, Nat.le_refl _⟩ X _ _ _ _ _ _ _ I hl hf
/-! java/util/ArrayDeque.inc(II)I imp=False fuel=False kap=False rt=I thr=False -/
def fJ3_inc (σ : St) (x0 : Int32) (x1 : Int32) : Option Int32 := lt (x0 + 1) fun x0_1 : Int32 => if x0_1 < x1 then some x0_1 else some (0 : Int32)
theorem wJ3_inc_0 {E : EV} {l : Launch} {p : Program} {e : Env} {s : State} {m : MethodId} {args : Array Value} {below : List Frame} {meth : Method} {c : Code} {R : Room} {σ : St} {res : Int32} (hX : XK E) (hR : 0 ≤ R.frames ∧ 0 ≤ R.locals) (X : MX E p s m args meth c cJ3_inc 2 (some .int) RJ3 "inc") : ∀ (x0 : Int32) (x1 : Int32) (H : Heap) (locs : List Loc) (cells slots : Nat) (ls : Array Slot), WI E R s σ H locs cells slots → lv_has ls 2 [(0, .int x0), (1, .int x1)] → fJ3_inc σ x0 x1 = some res → W p l e R s m args below meth c H locs cells slots (MQ below (Qd E R.cells R.slots (some (.int res)) σ) args s R.cells R.slots (fr E)) (F0 m 0 ls []) := by
  intro x0 x1 H locs cells slots ls I hl hf
  obtain ⟨⟨hx, hb, hml, hown, hts⟩, -⟩ := id X
  unfold fJ3_inc at hf
  obtain ⟨x0_1, ex0_1, hf⟩ := ol hf
  refine lv_iinc (v := x0_1) (lv' := [(0, .int x0_1), (1, .int x1)]) hx hb dJ3_inc_0 hl (k := 0) rfl ex0_1 (by decide) rfl (fun ls hl => ?_)
  refine lv_iload_n hx hb dJ3_inc_3 rfl (lv_at hl 0 rfl) ?_
  refine lv_iload_n hx hb dJ3_inc_4 rfl (lv_at hl 1 rfl) ?_
  refine lv_icmp_lt (tgt := 10) hx hb dJ3_inc_5 (by decide) (fun c_5 => ?_) (fun c_5 => ?_)
  · have hf := ip c_5 hf
    refine lv_iload_n hx hb dJ3_inc_10 rfl (lv_at hl 0 rfl) ?_
    cases os hf
    exact r_iret X I dJ3_inc_11
  · have hf := im c_5 hf
    refine lv_iconst (v := 0) hx hb dJ3_inc_8 (by decide) ?_
    refine lv_istore_n (lv' := [(0, .int (0 : Int32)), (1, .int x1)]) hx hb dJ3_inc_9 rfl hl (by decide) rfl (fun ls hl => ?_)
    refine lv_iload_n hx hb dJ3_inc_10 rfl (lv_at hl 0 rfl) ?_
    cases os hf
    exact r_iret X I dJ3_inc_11
theorem mJ3_inc {E : EV} {l : Launch} {σ : St} {x0 : Int32} {x1 : Int32} {res : Int32} (hX : XK E) (hf : fJ3_inc σ x0 x1 = some res) : CM E l yJ3_inc (ws_ yJ3_inc cJ3_inc 2 (some .int)) 0 0 [.int x0, .int x1] σ (some (.int res)) σ := by
  refine CM.of hX.1 (by decide) rfl rfl (Nat.le_of_ble_eq_true rfl) ?_
  intro p e s m below meth c X I ls hl
  exact wJ3_inc_0 hX ⟨Nat.le_refl _, Nat.le_refl _⟩ X _ _ _ _ _ _ _ I hl hf
/-! java/util/ArrayDeque.pollFirst()Ljava/lang/Object; imp=True fuel=False kap=False rt=O thr=False -/
theorem lvJ3_103 : GoodIn lw_all (va_wsS RJ3 103 yJ3_elementAt (ws_ yJ3_elementAt cJ3_elementAt 2 (some (.object "java/lang/Object")))) := lw_S q866 q867 q119 q868
theorem hdJ3_103 : yJ3_elementAt.cls ≠ "java/lang/invoke/MethodHandle" ∧ yJ3_elementAt.cls ≠ "java/lang/invoke/VarHandle" ∧ (parseMethodDescriptor yJ3_elementAt.desc).map (fun d => d.parameters.length) = some 2 := by decide +kernel
theorem lvJ3_74 : GoodIn lw_all (va_wsS RJ3 74 yJ3_inc (ws_ yJ3_inc cJ3_inc 2 (some .int))) := lw_S q2067 q787 q119 q788
theorem hdJ3_74 : yJ3_inc.cls ≠ "java/lang/invoke/MethodHandle" ∧ yJ3_inc.cls ≠ "java/lang/invoke/VarHandle" ∧ (parseMethodDescriptor yJ3_inc.desc).map (fun d => d.parameters.length) = some 2 := by decide +kernel
def fJ3_pollFirst (σ : St) (x0 : Nat) : Option ((Option Nat) × St) := (gR σ x0 [(22, 0)]).bind fun v_1 : Option Nat => (gI σ x0 [(22, 1)]).bind fun v_2 : Int32 => (v_1).bind fun a_3 : Nat => (fJ3_elementAt σ a_3 v_2).bind fun v_4 : Option Nat => oc v_4 (some ((none), σ)) fun a_6 => (sR σ a_3 3 v_2 none).bind fun σ_7 : St => (aL σ_7 a_3).bind fun v_8 : Int32 => (fJ3_inc σ_7 v_2 v_8).bind fun v_9 : Int32 => (pV σ_7 x0 [(22, 1)] (.int v_9)).bind fun σ_11 : St => some (((some a_6)), σ_11)
theorem wJ3_pollFirst_0 {E : EV} {l : Launch} {p : Program} {e : Env} {s : State} {m : MethodId} {args : Array Value} {below : List Frame} {meth : Method} {c : Code} {R : Room} {res : ((Option Nat) × St)} (hX : XK E) (hR : 1 ≤ R.frames ∧ 21 ≤ R.locals) (X : MX E p s m args meth c cJ3_pollFirst 4 (some (.object "java/lang/Object")) RJ3 "pollFirst") : ∀ (x0 : Nat) (σ : St) (H : Heap) (locs : List Loc) (cells slots : Nat) (ls : Array Slot), WI E R s σ H locs cells slots → lv_has ls 4 [(0, .ref x0)] → fJ3_pollFirst σ x0 = some res → W p l e R s m args below meth c H locs cells slots (MQ below (Qd E R.cells R.slots (some (va_rf res.1)) res.2) args s R.cells R.slots (fr E)) (F0 m 0 ls []) := by
  intro x0 σ H locs cells slots ls I hl hf
  obtain ⟨⟨hx, hb, hml, hown, hts⟩, -⟩ := id X
  unfold fJ3_pollFirst at hf
  refine lv_aload_n hx hb dJ3_pollFirst_0 rfl (lv_at hl 0 rfl) ?_
  obtain ⟨v_1, ev_1, hf⟩ := ob hf
  refine g_get X I gfJ3_3 (gR_in ev_1) dJ3_pollFirst_1 ?_
  refine lv_dup hx hb dJ3_pollFirst_4 (rf_cat _) ?_
  refine lo_astore_n (x := v_1) (lv' := [(1, va_rf v_1), (0, .ref x0)]) hx hb dJ3_pollFirst_5 rfl hl (by decide) rfl (fun ls hl => ?_)
  refine lv_aload_n hx hb dJ3_pollFirst_6 rfl (lv_at hl 1 rfl) ?_
  obtain ⟨v_2, ev_2, hf⟩ := ob hf
  refine g_get X I gfJ3_24 (gI_in ev_2) dJ3_pollFirst_7 ?_
  refine lv_dup hx hb dJ3_pollFirst_10 rfl ?_
  refine lv_istore_n (lv' := [(2, .int v_2), (1, va_rf v_1), (0, .ref x0)]) hx hb dJ3_pollFirst_11 rfl hl (by decide) (by rcases v_1 with _ | _ <;> exact rfl) (fun ls hl => ?_)
  obtain ⟨a_3, ea_3, hga_3⟩ := ob hf
  have hla_3 := hl
  have Ia_3 := I
  subst ea_3
  have hf := hga_3
  have hl := hla_3
  have I := Ia_3
  obtain ⟨v_4, ev_4, hf⟩ := ob hf
  refine cg_S (r := (some (va_rf v_4))) (σ' := σ) (rs := [va_rf v_4]) (rest := []) (As := [.ref a_3, .int v_2]) X I (mJ3_elementAt hX ev_4) lvJ3_103 hdJ3_103 ⟨Nat.le_trans (Nat.le_of_ble_eq_true rfl) hR.1, Nat.le_trans (Nat.le_of_ble_eq_true rfl) hR.2⟩ rfl hl.1 rfl (Nat.le_of_ble_eq_true rfl) rfl dJ3_pollFirst_12 (fun H locs cells slots I => ?_)
  refine lo_astore_n (x := v_4) (lv' := [(3, va_rf v_4), (2, .int v_2), (1, .ref a_3), (0, .ref x0)]) hx hb dJ3_pollFirst_15 rfl hl (by decide) rfl (fun ls hl => ?_)
  refine lo_aload_n (x := v_4) hx hb dJ3_pollFirst_16 rfl (lv_at hl 0 rfl) ?_
  have hga_6 := hf
  have hla_6 := hl
  have Ia_6 := I
  rcases v_4 with _ | a_6
  · have hf := oc_n hga_6
    have hl := hla_6
    have I := Ia_6
    refine lv_ifnullN (tgt := 34) hx hb dJ3_pollFirst_17 (by decide) ?_
    refine lv_aload_nN hx hb dJ3_pollFirst_34 rfl (lv_at hl 0 rfl) ?_
    cases os hf
    exact r_aret X I (Or.inl ⟨_, rfl⟩) (rf_or _) dJ3_pollFirst_35
  · have hf := oc_s hga_6
    have hl := hla_6
    have I := Ia_6
    refine lv_ifnull hx hb dJ3_pollFirst_17 ?_
    refine lv_aload_n hx hb dJ3_pollFirst_20 rfl (lv_at hl 2 rfl) ?_
    refine lv_iload_n hx hb dJ3_pollFirst_21 rfl (lv_at hl 1 rfl) ?_
    refine lv_null hx hb dJ3_pollFirst_22 ?_
    obtain ⟨σ_7, eσ_7, hf⟩ := ob hf
    refine g_aast (v := none) hX X I (by decide) eσ_7 dJ3_pollFirst_23 (fun H locs I => ?_)
    refine lv_aload_n hx hb dJ3_pollFirst_24 rfl (lv_at hl 3 rfl) ?_
    refine lv_iload_n hx hb dJ3_pollFirst_25 rfl (lv_at hl 1 rfl) ?_
    refine lv_aload_n hx hb dJ3_pollFirst_26 rfl (lv_at hl 2 rfl) ?_
    obtain ⟨v_8, ev_8, hf⟩ := ob hf
    refine g_alen X I ev_8 dJ3_pollFirst_27 ?_
    obtain ⟨v_9, ev_9, hf⟩ := ob hf
    refine cg_S (r := (some (.int v_9))) (σ' := σ_7) (rs := [.int v_9, .ref x0]) (rest := [.ref x0]) (As := [.int v_2, .int v_8]) X I (mJ3_inc hX ev_9) lvJ3_74 hdJ3_74 ⟨Nat.le_trans (Nat.le_of_ble_eq_true rfl) hR.1, Nat.le_trans (Nat.le_of_ble_eq_true rfl) hR.2⟩ rfl hl.1 rfl (Nat.le_of_ble_eq_true rfl) rfl dJ3_pollFirst_28 (fun H locs cells slots I => ?_)
    obtain ⟨σ_11, eσ_11, hf⟩ := ob hf
    refine g_put X I pfJ3_24 rfl rfl eσ_11 dJ3_pollFirst_31 (fun H locs I => ?_)
    refine lv_aload_n hx hb dJ3_pollFirst_34 rfl (lv_at hl 0 rfl) ?_
    cases os hf
    exact r_aret X I (Or.inl ⟨_, rfl⟩) (rf_or _) dJ3_pollFirst_35
theorem mJ3_pollFirst {E : EV} {l : Launch} {σ : St} {x0 : Nat} {res : ((Option Nat) × St)} (hX : XK E) (hf : fJ3_pollFirst σ x0 = some res) : CM E l yJ3_pollFirst (ws_ yJ3_pollFirst cJ3_pollFirst 4 (some (.object "java/lang/Object"))) 1 21 [.ref x0] σ (some (va_rf res.1)) res.2 := by
  refine CM.of hX.1 (by decide) rfl rfl (Nat.le_of_ble_eq_true rfl) ?_
  intro p e s m below meth c X I ls hl
  exact wJ3_pollFirst_0 hX ⟨Nat.le_refl _, Nat.le_refl _⟩ X _ _ _ _ _ _ _ I hl hf
