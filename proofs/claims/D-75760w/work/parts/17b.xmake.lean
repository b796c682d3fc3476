/-! words of the JDK's exceptions -/
set_option maxRecDepth 100000
theorem xat_T : ∀ w ∈ Bundle.throwableAtoms, vx_no w = true → w ∈ lw_all ∨ (w ∈ lw_tbl ∧ nwk w = true) := by
  unfold Bundle.throwableAtoms
  refine List.forall_mem_cons.mpr ⟨fun _ => Or.inl q121, ?_⟩
  refine List.forall_mem_cons.mpr ⟨fun _ => Or.inl q437, ?_⟩
  refine List.forall_mem_cons.mpr ⟨fun _ => Or.inl q446, ?_⟩
  refine List.forall_mem_cons.mpr ⟨fun _ => Or.inl q456, ?_⟩
  refine List.forall_mem_cons.mpr ⟨fun _ => Or.inl q459, ?_⟩
  refine List.forall_mem_cons.mpr ⟨fun _ => Or.inl q461, ?_⟩
  refine List.forall_mem_cons.mpr ⟨fun _ => Or.inl q438, ?_⟩
  refine List.forall_mem_cons.mpr ⟨fun _ => Or.inl q439, ?_⟩
  refine List.forall_mem_cons.mpr ⟨fun _ => Or.inl q170, ?_⟩
  refine List.forall_mem_cons.mpr ⟨fun _ => Or.inl q171, ?_⟩
  refine List.forall_mem_cons.mpr ⟨fun _ => Or.inl q440, ?_⟩
  refine List.forall_mem_cons.mpr ⟨fun _ => Or.inl q445, ?_⟩
  refine List.forall_mem_cons.mpr ⟨fun _ => Or.inl q457, ?_⟩
  refine List.forall_mem_cons.mpr ⟨fun _ => Or.inl q474, ?_⟩
  refine List.forall_mem_cons.mpr ⟨fun _ => Or.inl q427, ?_⟩
  refine List.forall_mem_cons.mpr ⟨fun _ => Or.inl q475, ?_⟩
  refine List.forall_mem_cons.mpr ⟨fun _ => Or.inl q429, ?_⟩
  refine List.forall_mem_cons.mpr ⟨fun _ => Or.inl q476, ?_⟩
  refine List.forall_mem_cons.mpr ⟨fun _ => Or.inl q431, ?_⟩
  refine List.forall_mem_cons.mpr ⟨fun _ => Or.inl q441, ?_⟩
  refine List.forall_mem_cons.mpr ⟨fun h => absurd h (by simp [vx_no]), ?_⟩
  refine List.forall_mem_cons.mpr ⟨fun _ => Or.inl q443, ?_⟩
  refine List.forall_mem_cons.mpr ⟨fun h => absurd h (by simp [vx_no]), ?_⟩
  refine List.forall_mem_cons.mpr ⟨fun _ => Or.inl q433, ?_⟩
  exact fun w h => by cases h
abbrev xnm : List String := ["java/lang/RuntimeException", "java/lang/Exception"]
theorem xnm_fit : ∀ n ∈ xnm, Bundle.fit n = true := by decide
theorem xat_CE22 : ∀ w ∈ Bundle.chain0Atoms RJ22 xnm, vx_no w = true → w ∈ lw_all ∨ (w ∈ lw_tbl ∧ nwk w = true) := by
  refine List.forall_mem_cons.mpr ⟨fun _ => Or.inl q463, ?_⟩
  refine List.forall_mem_cons.mpr ⟨fun _ => Or.inl q464, ?_⟩
  refine List.forall_mem_cons.mpr ⟨fun _ => Or.inl q465, ?_⟩
  refine List.forall_mem_cons.mpr ⟨fun _ => Or.inl q466, ?_⟩
  refine List.forall_mem_cons.mpr ⟨fun _ => Or.inr ⟨q418, rfl⟩, ?_⟩
  refine List.forall_mem_cons.mpr ⟨fun _ => Or.inl q466, ?_⟩
  refine List.forall_mem_cons.mpr ⟨fun _ => Or.inl q467, ?_⟩
  refine List.forall_mem_cons.mpr ⟨fun _ => Or.inl q468, ?_⟩
  refine List.forall_mem_cons.mpr ⟨fun _ => Or.inl q469, ?_⟩
  refine List.forall_mem_cons.mpr ⟨fun _ => Or.inr ⟨q420, rfl⟩, ?_⟩
  refine List.forall_mem_cons.mpr ⟨fun _ => Or.inl q469, ?_⟩
  refine List.forall_mem_cons.mpr ⟨fun _ => Or.inl q470, ?_⟩
  refine List.forall_mem_cons.mpr ⟨fun _ => Or.inl q471, ?_⟩
  refine List.forall_mem_cons.mpr ⟨fun _ => Or.inl q438, ?_⟩
  refine List.forall_mem_cons.mpr ⟨fun _ => Or.inr ⟨q422, rfl⟩, ?_⟩
  exact fun w h => by cases h
theorem xat_OE22 : ∀ w ∈ ([.methodLink RX1 3 (Bundle.init0 RJ22), .instantiable RJ22 6, .castable RJ22 RJ22, .selects RJ22 Bundle.tFill0 Bundle.tFill0, .selects RJ22 Bundle.tFill Bundle.tFill, .lays RJ22 Bundle.tN "cause" "Ljava/lang/Throwable;", .lays RJ22 Bundle.tN "stackTrace" Bundle.steD, .lays RJ22 Bundle.tN "suppressedExceptions" Bundle.listD, .lays RJ22 Bundle.tN "detailMessage" "Ljava/lang/String;", .isRef (.static Bundle.tN "UNASSIGNED_STACK" Bundle.steD), .isRef (.static Bundle.tN "SUPPRESSED_SENTINEL" Bundle.listD), .fieldLink Bundle.tN 198 Bundle.tN "backtrace" "Ljava/lang/Object;", .lays Bundle.tN Bundle.tN "backtrace" "Ljava/lang/Object;", .lays RJ22 Bundle.tN "backtrace" "Ljava/lang/Object;"] : List Cond), vx_no w = true → w ∈ lw_all ∨ (w ∈ lw_tbl ∧ nwk w = true) := by
  refine List.forall_mem_cons.mpr ⟨fun _ => Or.inl q462, ?_⟩
  refine List.forall_mem_cons.mpr ⟨fun _ => Or.inl q416, ?_⟩
  refine List.forall_mem_cons.mpr ⟨fun _ => Or.inr ⟨q417, rfl⟩, ?_⟩
  refine List.forall_mem_cons.mpr ⟨fun _ => Or.inl q424, ?_⟩
  refine List.forall_mem_cons.mpr ⟨fun _ => Or.inl q425, ?_⟩
  refine List.forall_mem_cons.mpr ⟨fun _ => Or.inl q426, ?_⟩
  refine List.forall_mem_cons.mpr ⟨fun _ => Or.inl q428, ?_⟩
  refine List.forall_mem_cons.mpr ⟨fun _ => Or.inl q430, ?_⟩
  refine List.forall_mem_cons.mpr ⟨fun _ => Or.inl q432, ?_⟩
  refine List.forall_mem_cons.mpr ⟨fun h => absurd h (by simp [vx_no]), ?_⟩
  refine List.forall_mem_cons.mpr ⟨fun h => absurd h (by simp [vx_no]), ?_⟩
  refine List.forall_mem_cons.mpr ⟨fun _ => Or.inl q472, ?_⟩
  refine List.forall_mem_cons.mpr ⟨fun _ => Or.inl q435, ?_⟩
  refine List.forall_mem_cons.mpr ⟨fun _ => Or.inl q434, ?_⟩
  exact fun w h => by cases h
theorem xat_E22 : ∀ w ∈ vx_at0 RX1 3 RJ22 xnm, w ∈ lw_all ∨ (w ∈ lw_tbl ∧ nwk w = true) := by
  intro w hw
  obtain ⟨h1, h2⟩ := List.mem_filter.mp hw
  rcases List.mem_append.mp h1 with h | h
  · rcases List.mem_append.mp h with h | h
    · exact xat_T w h h2
    · exact xat_CE22 w h h2
  · exact xat_OE22 w h h2
theorem xat_CE7 : ∀ w ∈ Bundle.chain0Atoms RJ7 xnm, vx_no w = true → w ∈ lw_all ∨ (w ∈ lw_tbl ∧ nwk w = true) := by
  refine List.forall_mem_cons.mpr ⟨fun _ => Or.inl q1208, ?_⟩
  refine List.forall_mem_cons.mpr ⟨fun _ => Or.inl q1209, ?_⟩
  refine List.forall_mem_cons.mpr ⟨fun _ => Or.inl q1210, ?_⟩
  refine List.forall_mem_cons.mpr ⟨fun _ => Or.inl q466, ?_⟩
  refine List.forall_mem_cons.mpr ⟨fun _ => Or.inr ⟨q418, rfl⟩, ?_⟩
  refine List.forall_mem_cons.mpr ⟨fun _ => Or.inl q466, ?_⟩
  refine List.forall_mem_cons.mpr ⟨fun _ => Or.inl q467, ?_⟩
  refine List.forall_mem_cons.mpr ⟨fun _ => Or.inl q468, ?_⟩
  refine List.forall_mem_cons.mpr ⟨fun _ => Or.inl q469, ?_⟩
  refine List.forall_mem_cons.mpr ⟨fun _ => Or.inr ⟨q420, rfl⟩, ?_⟩
  refine List.forall_mem_cons.mpr ⟨fun _ => Or.inl q469, ?_⟩
  refine List.forall_mem_cons.mpr ⟨fun _ => Or.inl q470, ?_⟩
  refine List.forall_mem_cons.mpr ⟨fun _ => Or.inl q471, ?_⟩
  refine List.forall_mem_cons.mpr ⟨fun _ => Or.inl q438, ?_⟩
  refine List.forall_mem_cons.mpr ⟨fun _ => Or.inr ⟨q422, rfl⟩, ?_⟩
  exact fun w h => by cases h
theorem xat_OE7 : ∀ w ∈ ([.methodLink RX1 9 (Bundle.init0 RJ7), .instantiable RJ7 6, .castable RJ7 RJ7, .selects RJ7 Bundle.tFill0 Bundle.tFill0, .selects RJ7 Bundle.tFill Bundle.tFill, .lays RJ7 Bundle.tN "cause" "Ljava/lang/Throwable;", .lays RJ7 Bundle.tN "stackTrace" Bundle.steD, .lays RJ7 Bundle.tN "suppressedExceptions" Bundle.listD, .lays RJ7 Bundle.tN "detailMessage" "Ljava/lang/String;", .isRef (.static Bundle.tN "UNASSIGNED_STACK" Bundle.steD), .isRef (.static Bundle.tN "SUPPRESSED_SENTINEL" Bundle.listD), .fieldLink Bundle.tN 198 Bundle.tN "backtrace" "Ljava/lang/Object;", .lays Bundle.tN Bundle.tN "backtrace" "Ljava/lang/Object;", .lays RJ7 Bundle.tN "backtrace" "Ljava/lang/Object;"] : List Cond), vx_no w = true → w ∈ lw_all ∨ (w ∈ lw_tbl ∧ nwk w = true) := by
  refine List.forall_mem_cons.mpr ⟨fun _ => Or.inl q1207, ?_⟩
  refine List.forall_mem_cons.mpr ⟨fun _ => Or.inl q722, ?_⟩
  refine List.forall_mem_cons.mpr ⟨fun _ => Or.inr ⟨q723, rfl⟩, ?_⟩
  refine List.forall_mem_cons.mpr ⟨fun _ => Or.inl q724, ?_⟩
  refine List.forall_mem_cons.mpr ⟨fun _ => Or.inl q453, ?_⟩
  refine List.forall_mem_cons.mpr ⟨fun _ => Or.inl q725, ?_⟩
  refine List.forall_mem_cons.mpr ⟨fun _ => Or.inl q726, ?_⟩
  refine List.forall_mem_cons.mpr ⟨fun _ => Or.inl q727, ?_⟩
  refine List.forall_mem_cons.mpr ⟨fun _ => Or.inl q728, ?_⟩
  refine List.forall_mem_cons.mpr ⟨fun h => absurd h (by simp [vx_no]), ?_⟩
  refine List.forall_mem_cons.mpr ⟨fun h => absurd h (by simp [vx_no]), ?_⟩
  refine List.forall_mem_cons.mpr ⟨fun _ => Or.inl q472, ?_⟩
  refine List.forall_mem_cons.mpr ⟨fun _ => Or.inl q435, ?_⟩
  refine List.forall_mem_cons.mpr ⟨fun _ => Or.inl q729, ?_⟩
  exact fun w h => by cases h
theorem xat_E7 : ∀ w ∈ vx_at0 RX1 9 RJ7 xnm, w ∈ lw_all ∨ (w ∈ lw_tbl ∧ nwk w = true) := by
  intro w hw
  obtain ⟨h1, h2⟩ := List.mem_filter.mp hw
  rcases List.mem_append.mp h1 with h | h
  · rcases List.mem_append.mp h with h | h
    · exact xat_T w h h2
    · exact xat_CE7 w h h2
  · exact xat_OE7 w h h2
