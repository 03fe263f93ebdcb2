/-! new NoSuchElementException(): the words of its making -/
def zneW : List Jvm.Cond := vx_at0 "SecretBuyers" 109 "java/util/NoSuchElementException" ["java/lang/RuntimeException", "java/lang/Exception"]
theorem zneW_in : (zneW.all fun w => decide (w ∈ lw_tbl)) = true := by decide +kernel
theorem zneW_ok : (zneW.all fun w => (goodWord w || zisNW w) && vx_ot w) = true := by decide +kernel
