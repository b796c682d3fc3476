/-! a byte in a field -/
set_option maxRecDepth 100000
theorem b_nar {v : Int32} (h : v.toInt8.toInt32 = v) : narrow .byte (.int v) = .int v := congrArg Value.int h
theorem b_fit {v : Int32} (h : v.toInt8.toInt32 = v) : fits .byte (.int v) = true := by rw [← h]; exact pk_fb _
