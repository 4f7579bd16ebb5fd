/-! ===== the abstract machine against the JVM: throws of the machine's own ===== -/
section SND11
def rt_nmA : List String := ["java/lang/IndexOutOfBoundsException", "java/lang/RuntimeException", "java/lang/Exception"]
def rt_nmN : List String := ["java/lang/RuntimeException", "java/lang/Exception"]
def rt_okw (w : Cond) : Bool := goodWord w || rt_nk w
theorem rt_atA : ∀ w ∈ (vx_atM "java/lang/ArrayIndexOutOfBoundsException" rt_nmA), w ∈ lw_tbl ∧ rt_okw w = true := by decide +kernel
theorem rt_atN : ∀ w ∈ (vx_atM "java/lang/NegativeArraySizeException" rt_nmN), w ∈ lw_tbl ∧ rt_okw w = true := by decide +kernel
theorem rt_atP : ∀ w ∈ (vx_atN 8), w ∈ lw_tbl ∧ rt_okw w = true := by decide +kernel
theorem rt_atE : ∀ w ∈ (vx_atS "java/lang/Math" 113 "java/lang/ArithmeticException" rt_nmN), w ∈ lw_tbl ∧ rt_okw w = true := by decide +kernel
end SND11
