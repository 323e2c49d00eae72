/-! throws: the words of 'throw new E()' by a check -/
theorem zThr.of {own : String} {ik ic : Nat} {cls : String} {names : List String} (h : (Bundle.fit cls && names.all Bundle.fit && decide (names.length ≤ 2) && (Cond.classLink own ik cls :: Cond.initialized cls :: vx_at0 own ic cls names).all (fun w => zTb.contains w && zMv w && vx_ot w)) = true) : zThr own ik ic cls names := by
  simp only [Bool.and_eq_true, List.all_eq_true, decide_eq_true_eq] at h
  refine ⟨h.1.1.1, h.1.1.2, h.1.2, fun w hw => ?_⟩
  have h1 := h.2 w hw
  exact ⟨List.contains_iff_mem.mp h1.1.1, h1.1.2, h1.2⟩
theorem zt_X1_46 : zThr "CartBridge" 46 48 "java/lang/UnsupportedOperationException" ["java/lang/RuntimeException", "java/lang/Exception"] := zThr.of (by decide +kernel)
theorem zt_X1_60 : zThr "CartBridge" 60 62 "java/lang/IndexOutOfBoundsException" ["java/lang/RuntimeException", "java/lang/Exception"] := zThr.of (by decide +kernel)
theorem zt_X1_57 : zThr "CartBridge" 57 59 "java/lang/IllegalArgumentException" ["java/lang/RuntimeException", "java/lang/Exception"] := zThr.of (by decide +kernel)
theorem zt_X1_63 : zThr "CartBridge" 63 65 "java/util/NoSuchElementException" ["java/lang/RuntimeException", "java/lang/Exception"] := zThr.of (by decide +kernel)
theorem zt_X1_66 : zThr "CartBridge" 66 68 "java/lang/IllegalStateException" ["java/lang/RuntimeException", "java/lang/Exception"] := zThr.of (by decide +kernel)
theorem zt_X1_482 : zThr "CartBridge" 482 484 "java/lang/ArithmeticException" ["java/lang/RuntimeException", "java/lang/Exception"] := zThr.of (by decide +kernel)
