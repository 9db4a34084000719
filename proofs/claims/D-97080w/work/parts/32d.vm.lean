set_option maxRecDepth 100000
/-! ===== exceptions that the machine itself throws ===== -/
def xCC : List Cond := Jvm.Bundle.messageArmAtoms "java/lang/ClassCastException" ["java/lang/RuntimeException", "java/lang/Exception"]
def xNA : List Cond := Jvm.Bundle.messageArmAtoms "java/lang/NegativeArraySizeException" ["java/lang/RuntimeException", "java/lang/Exception"]
def xST : List Cond := [.laysStatic "java/lang/Throwable" "UNASSIGNED_STACK" "[Ljava/lang/StackTraceElement;", .laysStatic "java/lang/Throwable" "SUPPRESSED_SENTINEL" "Ljava/util/List;", .isRef (.static "java/lang/Throwable" "UNASSIGNED_STACK" "[Ljava/lang/StackTraceElement;"), .isRef (.static "java/lang/Throwable" "SUPPRESSED_SENTINEL" "Ljava/util/List;")]
theorem xCC_in : xCC.all (fun x => decide (x ∈ lw_all) || decide (x ∈ cNW) || decide (x ∈ xST)) = true := by decide +kernel
theorem xNA_in : xNA.all (fun x => decide (x ∈ lw_all) || decide (x ∈ cNW) || decide (x ∈ xST)) = true := by decide +kernel
