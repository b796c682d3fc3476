/-! Math.addExact's ground (printed by gen/build.py out of kit/laws/EXCEPTIONS) -/
set_option maxRecDepth 100000
theorem xat_S : ∀ w ∈ Bundle.throwableSAtoms, vx_no w = true → w ∈ lw_all ∨ (w ∈ lw_tbl ∧ nwk w = true) := by
  unfold Bundle.throwableSAtoms
  refine List.forall_mem_cons.mpr ⟨fun _ => Or.inl q746, ?_⟩
  refine List.forall_mem_cons.mpr ⟨fun _ => Or.inl q747, ?_⟩
  refine List.forall_mem_cons.mpr ⟨fun _ => Or.inl q473, ?_⟩
  refine List.forall_mem_cons.mpr ⟨fun _ => Or.inl q433, ?_⟩
  exact fun w h => by cases h
theorem xat_CE25 : ∀ w ∈ Bundle.chainSAtoms RJ25 xnm, vx_no w = true → w ∈ lw_all ∨ (w ∈ lw_tbl ∧ nwk w = true) := by
  refine List.forall_mem_cons.mpr ⟨fun _ => Or.inl q2321, ?_⟩
  refine List.forall_mem_cons.mpr ⟨fun _ => Or.inl q2322, ?_⟩
  refine List.forall_mem_cons.mpr ⟨fun _ => Or.inl q2323, ?_⟩
  refine List.forall_mem_cons.mpr ⟨fun _ => Or.inl q740, ?_⟩
  refine List.forall_mem_cons.mpr ⟨fun _ => Or.inr ⟨q419, rfl⟩, ?_⟩
  refine List.forall_mem_cons.mpr ⟨fun _ => Or.inl q740, ?_⟩
  refine List.forall_mem_cons.mpr ⟨fun _ => Or.inl q741, ?_⟩
  refine List.forall_mem_cons.mpr ⟨fun _ => Or.inl q742, ?_⟩
  refine List.forall_mem_cons.mpr ⟨fun _ => Or.inl q743, ?_⟩
  refine List.forall_mem_cons.mpr ⟨fun _ => Or.inr ⟨q421, rfl⟩, ?_⟩
  refine List.forall_mem_cons.mpr ⟨fun _ => Or.inl q743, ?_⟩
  refine List.forall_mem_cons.mpr ⟨fun _ => Or.inl q744, ?_⟩
  refine List.forall_mem_cons.mpr ⟨fun _ => Or.inl q745, ?_⟩
  refine List.forall_mem_cons.mpr ⟨fun _ => Or.inl q746, ?_⟩
  refine List.forall_mem_cons.mpr ⟨fun _ => Or.inr ⟨q423, rfl⟩, ?_⟩
  exact fun w h => by cases h
theorem xat_OE25 : ∀ w ∈ ([.methodLink RJ13 113 (Bundle.initS RJ25), .instantiable RJ25 6, .castable RJ25 RJ25, .selects RJ25 Bundle.tFill0 Bundle.tFill0, .selects RJ25 Bundle.tFill Bundle.tFill, .lays RJ25 Bundle.tN "cause" "Ljava/lang/Throwable;", .lays RJ25 Bundle.tN "stackTrace" Bundle.steD, .lays RJ25 Bundle.tN "suppressedExceptions" Bundle.listD, .lays RJ25 Bundle.tN "detailMessage" "Ljava/lang/String;", .isRef (.static Bundle.tN "UNASSIGNED_STACK" Bundle.steD), .isRef (.static Bundle.tN "SUPPRESSED_SENTINEL" Bundle.listD), .fieldLink Bundle.tN 198 Bundle.tN "backtrace" "Ljava/lang/Object;", .lays Bundle.tN Bundle.tN "backtrace" "Ljava/lang/Object;", .lays RJ25 Bundle.tN "backtrace" "Ljava/lang/Object;"] : List Cond), vx_no w = true → w ∈ lw_all ∨ (w ∈ lw_tbl ∧ nwk w = true) := by
  refine List.forall_mem_cons.mpr ⟨fun _ => Or.inl q2339, ?_⟩
  refine List.forall_mem_cons.mpr ⟨fun _ => Or.inl q2320, ?_⟩
  refine List.forall_mem_cons.mpr ⟨fun _ => Or.inr ⟨q2331, rfl⟩, ?_⟩
  refine List.forall_mem_cons.mpr ⟨fun _ => Or.inl q2332, ?_⟩
  refine List.forall_mem_cons.mpr ⟨fun _ => Or.inl q452, ?_⟩
  refine List.forall_mem_cons.mpr ⟨fun _ => Or.inl q2326, ?_⟩
  refine List.forall_mem_cons.mpr ⟨fun _ => Or.inl q2327, ?_⟩
  refine List.forall_mem_cons.mpr ⟨fun _ => Or.inl q2329, ?_⟩
  refine List.forall_mem_cons.mpr ⟨fun _ => Or.inl q2325, ?_⟩
  refine List.forall_mem_cons.mpr ⟨fun h => absurd h (by simp [vx_no]), ?_⟩
  refine List.forall_mem_cons.mpr ⟨fun h => absurd h (by simp [vx_no]), ?_⟩
  refine List.forall_mem_cons.mpr ⟨fun _ => Or.inl q472, ?_⟩
  refine List.forall_mem_cons.mpr ⟨fun _ => Or.inl q435, ?_⟩
  refine List.forall_mem_cons.mpr ⟨fun _ => Or.inl q2324, ?_⟩
  exact fun w h => by cases h
theorem xat_E25 : ∀ w ∈ vx_atS RJ13 113 RJ25 xnm, w ∈ lw_all ∨ (w ∈ lw_tbl ∧ nwk w = true) := by
  intro w hw
  obtain ⟨h1, h2⟩ := List.mem_filter.mp hw
  rcases List.mem_append.mp h1 with h | h
  · rcases List.mem_append.mp h with h | h
    · rcases List.mem_append.mp h with h | h
      · exact xat_T w h h2
      · exact xat_S w h h2
    · exact xat_CE25 w h h2
  · exact xat_OE25 w h h2
section XAO
variable {l : Launch}
theorem vx_ofWF {y : MethodName} {ws ws' : List Cond} {rm : Room} {Pc : Array Value → State → Prop} {Qc : Array Value → State → Outcome → State → Prop} {XC : Addr → String → State → State → Prop} {mc ms : Nat} {free : Addr → Prop} {cc : ByteArray} {maxL : Nat} {ret : Option FieldType}
    (hy : plainFor y = true) (hw : ws = Cond.code y cc maxL ret :: ws')
    (body : ∀ p e s m args below meth c s₁, BodyLoose p l y (headSpec ws rm) cc maxL ret e s m args below meth c s₁ → c.maxLocals = maxL → (∀ x ∈ c.exceptionTable.toList, False) → Pc args s →
      W p l e (headSpec ws rm).room s m args below meth c s.heap [] 0 0 (vx_MQ below Qc XC args s mc ms free) (entryFrame m args maxL)) : vx_Met l y ws rm Pc Qc XC mc ms free := by
  refine MetFree.of_bodySF (code := cc) (maxLocals := maxL) (ret := ret) hy ?_ ?_
  · intro args s m h hn
    obtain ⟨meth, c, h1, h2, h3, h4, h5, h6, -, -⟩ := Cond.code_spec hn (atoms_spec (ws := ws) h _ (by rw [hw]; exact List.mem_cons_self))
    exact ⟨meth, c, h1, h2, h3, h4, h5, h6⟩
  · intro p e s m args below meth c s₁ B hml hP _
    have hh0 : s₁.heap = s.heap := by rw [B.state]; rfl
    have ht : ∀ x ∈ c.exceptionTable.toList, False := by
      obtain ⟨meth9, c9, h1, h2, -, -, -, -, h7, -⟩ := Cond.code_spec B.named (atoms_spec (ws := ws) B.pre _ (by rw [hw]; exact List.mem_cons_self))
      cases Option.some.inj (h1.symm.trans B.method)
      cases Option.some.inj (h2.symm.trans (Stand.of_body B).code)
      intro x hx
      rw [Array.isEmpty_iff.mp h7] at hx
      cases hx
    obtain ⟨t, a1, o, b1, b2, b3⟩ := body p e s m args below meth c s₁ B hml ht hP s₁ hh0 (Stand.of_body B)
    exact ⟨t, o, a1, b1, b2, b3⟩
end XAO
section XAM
variable {p : Program} {l : Launch} {e : Env} {R : Room} {s : State} {m : MethodId} {args : Array Value} {below : List Frame} {meth : Method} {c : Code} {H : Heap} {locs : List Loc} {cells slots : Nat} {Q : State → Prop}
variable {ls : Array Slot} {rest : List Value} {D : va_G} {cl : List vw_C} {tys : List (ClassId × FieldType)} {ws : va_W}
theorem vx_makeSX {cc : ByteArray} {pc : Nat} (hexec : p.tables.exec = Jvm.exec) (hb : c.code = cc) (hl : l.stackTraces = false) {own cls text : String} {names : List String} {ik is ic sa : Nat} {A : Nat → Prop}
    (hown : s.vm.findClass own = some m.cls) (hcls : Bundle.fit cls = true) (hnames : ∀ n ∈ names, Bundle.fit n = true)
    (hk : (Cond.classLink own ik cls).before args s = true) (hini : (Cond.initialized cls).before args s = true) (hstr : vk_R own is text sa s) (hat : ∀ w ∈ vx_atS own ic cls names, w.before args s = true)
    (hgood : ∀ w ∈ Cond.classLink own ik cls :: Cond.initialized cls :: vx_atS own ic cls names, vx_ot w = true)
    (hU : vx_Zq Bundle.tN "UNASSIGNED_STACK" Bundle.steD A s s.heap) (hN : vx_Zq Bundle.tN "SUPPRESSED_SENTINEL" Bundle.listD A s s.heap) (hS : va_S A s.heap H locs) (hsize : ls.size = c.maxLocals)
    (d0 : decode cc pc = .ok (.new ik, 3)) (d3 : decode cc (pc + 3) = .ok (.dup, 1)) (d4 : decode cc (pc + 4) = .ok (.ldc is, 2)) (d6 : decode cc (pc + 6) = .ok (.invokespecial ic, 3))
    (hRframes : names.length + 3 < R.frames) (hRlocals : (rest.map fun v => v.category).sum + (13 * (names.length + 1) + 43) ≤ R.locals) (hRcells : cells + 1 ≤ R.cells) (hRslots : slots + 6 ≤ R.slots)
    (kk : ∀ (H1 : Heap) (ce : Cell), H1[H.size]? = some ce → ce.vm = .none → s.vm.findClass cls = some ce.cls → H1.size = H.size + 1 → (∀ q : Nat, q < H.size → H1[q]? = H[q]?) → W p l e R s m args below meth c H1 locs (cells + 1) (slots + 6) Q (F0 m (pc + 9) ls (.ref H.size :: rest))) :
    W p l e R s m args below meth c H locs cells slots Q (F0 m pc ls rest) := by
  intro T hT X
  subst hT
  have htr : e.platform.stackTraces = false := (show e.platform.stackTraces = l.stackTraces by rw [X.admits.platform]).trans hl
  have Y := vx_rebase X (R' := { frames := R.frames, locals := R.locals, cells := 1, slots := 6 }) (Nat.le_refl _) (Nat.le_refl _) hRcells hRslots
  obtain ⟨s', hA'⟩ : ∃ z, z = (T.setVm s.vm).setFrames (.invoking m args :: below) := ⟨_, rfl⟩
  rw [← hA'] at Y
  have hvm : s'.vm = s.vm := by rw [hA']; rfl
  have hhp : s'.heap = T.heap := by rw [hA']; rfl
  have hW0 : s.WarmedH s'.vm := by rw [hvm]; exact State.WarmedH.refl s
  have hat' : ∀ w ∈ vx_atS own ic cls names, w.before args s' = true := fun w hw => vx_ot_at hW0 hvm.symm (hgood w (List.mem_cons_of_mem _ (List.mem_cons_of_mem _ hw))) (hat w hw)
  have hk' : (Cond.classLink own ik cls).before args s' = true := vx_ot_at hW0 hvm.symm (hgood _ List.mem_cons_self) hk
  have hini' : (Cond.initialized cls).before args s' = true := vx_ot_at hW0 hvm.symm (hgood _ (List.mem_cons_of_mem _ List.mem_cons_self)) hini
  have hU' : vx_Zq Bundle.tN "UNASSIGNED_STACK" Bundle.steD A s' s'.heap := by rw [hhp]; exact vx_Zq.moved hW0.alike (hU.kept hS.2.1)
  have hN' : vx_Zq Bundle.tN "SUPPRESSED_SENTINEL" Bundle.listD A s' s'.heap := by rw [hhp]; exact vx_Zq.moved hW0.alike (hN.kept hS.2.1)
  have h : ∀ w ∈ Bundle.ownAtoms own ic cls names, w.before args s' = true := vx_own hat' (vx_isRefq hU'.1) (vx_isRefq hN'.1) hU'.2.word hN'.2.word
  have hown' : s'.vm.findClass own = some m.cls := by rw [hvm]; exact hown
  have hins : (Cond.instantiable cls 6).before args s' = true := h _ (by simp [Bundle.ownAtoms])
  obtain ⟨vm₁, cX, kX, hfX, hkX, -, -, X₁, st1⟩ := Y.newCold hexec (own := own) (C := cls) (index := ik) (n := 6) hown' hk' hins hini'
    (g := F0 m pc ls rest) rfl (by rw [hb]; exact d0) (Nat.le_refl _) (Nat.le_refl _)
  generalize hT1 : (T.setVm vm₁).pushCell { cls := cX, slots := kX.instanceTypes.map defaultValue, vm := .none } = T1 at X₁ st1
  have hcat : (Value.ref T.heap.size).category = 1 := rfl
  have hcellA : T1.heap[T.heap.size]? = some (freshCell cX kX) := by rw [← hT1]; exact State.heap_pushCell_size _ _
  have d3' : decode c.code (pc + 3) = .ok (.dup, 1) := by rw [hb]; exact d3
  have d4' : decode c.code (pc + 4) = .ok (.ldc is, 2) := by rw [hb]; exact d4
  have hstr' : vk_R own is text sa s' := vk_R.warm hW0 hstr
  obtain ⟨V, ce, L, Z, hL, hlt, hcl9, hvm9, st⟩ := vx_ctorMadeS X₁ hexec htr (own := own) (cls := cls) (names := names) (ic := ic) hown' hcls hnames h (fun x hx => nomatch hx) hfX hkX hcellA (by rw [hhp]; exact Nat.le_refl _) (msg := .ref sa) rfl
    (g := { method := m, pc := pc + 6, locals := ls, stack := .ref sa :: .ref T.heap.size :: .ref T.heap.size :: rest, locked := none }) rfl hsize (rest := rest) rfl
    (by rw [hb]; exact d6) hRframes (by simp only [List.map_cons, List.sum_cons, hcat]; omega)
  have Z0 := Stand.forget (locs := []) Z (fun y hy => by rw [hL y hy, hhp]; exact Nat.le_refl _)
  obtain ⟨f1, f2⟩ := vx_frame Z0.same
  rw [hhp] at f1 f2
  have hcid : s.vm.findClass cls = some ce.cls := by
    rw [hcl9]
    rw [hvm] at hfX
    exact hfX
  have hz9 := Z0.same.2.2.1
  rw [hhp] at hz9
  have hh : (V.setCell T.heap.size ce).heap[T.heap.size]? = some ce := heapAt_setCell_self (s := V) ce hlt
  subst hA'
  have X5 := vx_back9 X Y Z0
  have X6 : Stand p l e R s m args below meth c (V.setCell T.heap.size ce) locs (cells + 1) (slots + 6) := { X5 with same := X5.same.mono (by omega) (by omega) }
  have hsz : (V.setCell T.heap.size ce).heap.size ≤ T.heap.size + 1 := hz9
  have hsz2 : T.heap.size < (V.setCell T.heap.size ce).heap.size := (Array.getElem?_eq_some_iff.mp hh).1
  obtain ⟨t, a1, b1⟩ := kk (V.setCell T.heap.size ce).heap ce hh hvm9 hcid (by omega) (fun q hq => f2 q hq (fun z hz => nomatch hz)) _ rfl X6
  refine ⟨t, st1 _ ?_, b1⟩
  show Steps p.tables e below (T1.setTop { method := m, pc := pc + 3, locals := ls, stack := .ref T.heap.size :: rest, locked := none }) _
  jvm_step X₁.here [X₁.here.top, hexec, d3', Value.category]
  exact X₁.ldcString hexec (own := own) (text := text) (index := is) (a := sa) hown' hstr'.1 hstr'.2
    (g := { method := m, pc := pc + 4, locals := ls, stack := .ref T.heap.size :: .ref T.heap.size :: rest, locked := none }) rfl d4' _ (st _ a1)
end XAM
