/-! words of the throws -/
set_option maxRecDepth 100000
def xnm_IllegalStateException : List String := ["java/lang/RuntimeException", "java/lang/Exception"]
def xnm_IllegalArgumentException : List String := ["java/lang/RuntimeException", "java/lang/Exception"]
def xnm_IndexOutOfBoundsException : List String := ["java/lang/RuntimeException", "java/lang/Exception"]
def xnm_NoSuchElementException : List String := ["java/lang/RuntimeException", "java/lang/Exception"]
theorem xok_of {L : List Cond} (h : L.all (fun w => decide (w ∈ lw_all) || (decide (w ∈ lw_tbl) && xmv w)) = true) : ∀ w ∈ L, xok w := fun w hw => by
  have := List.all_eq_true.mp h w hw
  simp only [Bool.or_eq_true, Bool.and_eq_true, decide_eq_true_eq] at this
  exact this
theorem xat_IllegalStateException : ∀ w ∈ vx_at0 "HallPlan" 76 "java/lang/IllegalStateException" xnm_IllegalStateException, xok w := xok_of (by decide +kernel)
theorem xat_IllegalArgumentException : ∀ w ∈ vx_at0 "HallPlan" 79 "java/lang/IllegalArgumentException" xnm_IllegalArgumentException, xok w := xok_of (by decide +kernel)
theorem xat_IndexOutOfBoundsException : ∀ w ∈ vx_at0 "HallPlan" 82 "java/lang/IndexOutOfBoundsException" xnm_IndexOutOfBoundsException, xok w := xok_of (by decide +kernel)
theorem xat_NoSuchElementException : ∀ w ∈ vx_at0 "HallPlan" 85 "java/util/NoSuchElementException" xnm_NoSuchElementException, xok w := xok_of (by decide +kernel)
theorem xgo_IllegalStateException : ∀ w ∈ Cond.classLink "HallPlan" 74 "java/lang/IllegalStateException" :: Cond.initialized "java/lang/IllegalStateException" :: vx_at0 "HallPlan" 76 "java/lang/IllegalStateException" xnm_IllegalStateException, vx_ot w = true := by decide +kernel
theorem xgo_IllegalArgumentException : ∀ w ∈ Cond.classLink "HallPlan" 77 "java/lang/IllegalArgumentException" :: Cond.initialized "java/lang/IllegalArgumentException" :: vx_at0 "HallPlan" 79 "java/lang/IllegalArgumentException" xnm_IllegalArgumentException, vx_ot w = true := by decide +kernel
theorem xgo_IndexOutOfBoundsException : ∀ w ∈ Cond.classLink "HallPlan" 80 "java/lang/IndexOutOfBoundsException" :: Cond.initialized "java/lang/IndexOutOfBoundsException" :: vx_at0 "HallPlan" 82 "java/lang/IndexOutOfBoundsException" xnm_IndexOutOfBoundsException, vx_ot w = true := by decide +kernel
theorem xgo_NoSuchElementException : ∀ w ∈ Cond.classLink "HallPlan" 83 "java/util/NoSuchElementException" :: Cond.initialized "java/util/NoSuchElementException" :: vx_at0 "HallPlan" 85 "java/util/NoSuchElementException" xnm_NoSuchElementException, vx_ot w = true := by decide +kernel
