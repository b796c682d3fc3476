/-! new E(text) of an exception of the JDK; contracts of methods of Math -/
set_option maxRecDepth 100000
section XS2
variable {p : Program} {l : Launch} {e : Env} {R : Room} {s : State} {m : MethodId} {args : Array Value} {below : List Frame} {meth : Method} {c : Code} {H : Heap} {locs : List Loc} {cells slots : Nat} {Q : State → Prop}
variable {E : EV} {σ σ' : St} {cc : ByteArray} {nL pc a : Nat} {ret : Option FieldType} {own nm : String} {ls : Array Slot} {rest st0 : List Value}
theorem CX.ofF {y : MethodName} {f lo maxL : Nat} {av : List Value} {rv : Option (Option Value)} {rx : Option Nat} (hE : EK E) (hy : plainFor y = true) (hown : y.cls = own) (hnm : y.name = nm) (hn : (lg_sl av).length ≤ maxL)
    (body : ∀ (p : Program) (e : Env) (s : State) (m : MethodId) (below : List Frame) (meth : Method) (c : Code), MX E p s m av.toArray meth c cc maxL ret own nm → MH c [] → WI E (rm_ f lo σ) s σ s.heap [] 0 0 → ∀ ls, lv_has ls maxL (lv_args 0 av) →
      W p l e (rm_ f lo σ) s m av.toArray below meth c s.heap [] 0 0 (vx_MQ below (QS E σ.2.2.1 σ.2.2.2 rv σ') (XS E σ.2.2.1 σ.2.2.2 rx σ') av.toArray s σ.2.2.1 σ.2.2.2 (fr E)) (F0 m 0 ls [])) :
    CX E l y (ws_ y cc maxL ret) f lo av σ rv rx σ' := by
  refine vx_ofWF (cc := cc) (maxL := maxL) (ret := ret) hy rfl ?_
  intro p e s m args below meth c s₁ B hml hno hv
  obtain ⟨rfl, hW⟩ := hv
  have hts := atoms_spec (ws := ws_ y cc maxL ret) B.pre
  have hl := lv_entry av (n := maxL) hn
  rw [lg_entry_eq]
  subst hown
  subst hnm
  refine body p e s m below meth c ⟨⟨B.exec, B.bytes, hml, findClass_of_methodNamed B.named, fun w h => hts w (List.mem_cons_of_mem _ h)⟩, B.returns, B.notSynchronized, hW.1, hE, (name_of_methodNamed B.named B.method).1, hW.2.2.2.2.2.1, hW.2.2.2.2.2.2⟩ ?_ (WI.of ⟨rfl, rfl⟩ hW) _ hl
  unfold MH
  cases hc : c.exceptionTable.toList with
  | nil => rfl
  | cons x r => exact (hno x (by rw [hc]; exact List.mem_cons_self)).elim
theorem x_makeS (hX : XK E) (hS : l.stackTraces = false) (X : MX E p s m args meth c cc nL ret own nm) (I : WI E R s σ H locs cells slots) {cls : String} {names : List String} {T : u_T} {ik is ic ci q k : Nat} {tx : String} (hstr : (own, is, tx, k) ∈ SKL) (hc : CL[ci]? = some (cls, T, 0)) (hcls : Bundle.fit cls = true) (hnames : ∀ n ∈ names, Bundle.fit n = true)
    (hk : Cond.classLink own ik cls ∈ lw_all) (hini : Cond.initialized cls ∈ lw_all) (hat : ∀ w ∈ vx_atS own ic cls names, w ∈ lw_all ∨ (w ∈ lw_tbl ∧ nwk w = true)) (h : nH σ 6 (.inr (ci, [])) = some (q, σ')) (hsize : ls.size = nL) (hR : names.length + 4 ≤ R.frames ∧ 13 * (names.length + 1) + 60 ≤ R.locals) (hW : (rest.map fun v => v.category).sum ≤ 8)
    (d0 : decode cc pc = .ok (.new ik, 3)) (d3 : decode cc (pc + 3) = .ok (.dup, 1)) (d4 : decode cc (pc + 4) = .ok (.ldc is, 2)) (d6 : decode cc (pc + 6) = .ok (.invokespecial ic, 3))
    (kk : ∀ (H : Heap) (locs : List Loc) (cells slots : Nat), WI E R s σ' H locs cells slots → W p l e R s m args below meth c H locs cells slots Q (F0 m (pc + 9) ls (.ref q :: rest))) : W p l e R s m args below meth c H locs cells slots Q (F0 m pc ls rest) := by
  have hXF := X.xf hX
  have hvS := I.vS X
  obtain ⟨⟨hx, hb, hml, hown, hts⟩, x1, x2, hK, hE, x3, x4, x5⟩ := X
  obtain ⟨n1, n2, n3, n4⟩ := nH_in h
  have i1 := I.2.2.1
  have i2 := I.2.2.2.1
  have hq : q = H.size := by rw [n3, I.1.2.2.1]
  subst hq
  refine vx_makeSX (A := fr E) (cls := cls) (text := tx) (names := names) (ik := ik) (is := is) (ic := ic) hx hb hS hown hcls hnames (hts _ hk) (hts _ hini) (hXF.2.2.2.2.1 _ hstr) (fun w hw => ?_) (fun w hw => ?_) (hXF.2.2.2.2.2.2.1.kept (fun q h1 h2 => x4 q h1)) (hXF.2.2.2.2.2.2.2.1.kept (fun q h1 h2 => x4 q h1)) hvS (by rw [hml]; exact hsize) d0 d3 d4 d6 (by omega) (by omega) (by omega) (by omega) (fun H1 ce e1 e2 e3 e4 e5 => ?_)
  · rcases hat w hw with h1 | ⟨h1, h2⟩
    · exact hts _ h1
    · exact va_Nw.use (nwk_tab h2) (hXF.1 _ h1 h2)
  · rcases List.mem_cons.mp hw with rfl | hw
    · rfl
    · rcases List.mem_cons.mp hw with rfl | hw
      · rfl
      · rcases hat w hw with h1 | ⟨h1, h2⟩
        · unfold vx_ot
          rw [(List.mem_filter.mp h1).2, Bool.or_true]
        · unfold vx_ot
          rw [nwk_tab h2, Bool.true_or]
  · refine WI.push I h ⟨_, clu hc, ce, e1, ?_, e2, fun k hk => absurd hk (Nat.not_lt_zero k)⟩ e4 e5 (fun J => kk _ _ _ _ J)
    exact Option.some.inj (e3.symm.trans (hK.1.1 ci _ hc).2.1)
end XS2
