/-! exceptions that the machine makes, caught where they're thrown -/
def cWd (L : List Cond) : Bool := L.all fun w => decide (w ∈ lw_all) || (decide (w ∈ lw_tbl) && (match w with
  | .declares _ => true
  | .castable _ _ => true
  | _ => false)) 
theorem cVm_N : cWd (vx_atN 8) = true := by decide +kernel
theorem cVm_Ng : ∀ w ∈ vx_atN 8, vx_ot w = true := by decide +kernel
abbrev cEA : String := "java/lang/ArrayIndexOutOfBoundsException"
abbrev cEC : String := "java/lang/ClassCastException"
abbrev cES : String := "java/lang/NegativeArraySizeException"
abbrev cEN : String := "java/lang/NullPointerException"
abbrev cnA : List String := ["java/lang/IndexOutOfBoundsException", "java/lang/RuntimeException", "java/lang/Exception"]
abbrev cnC : List String := ["java/lang/RuntimeException", "java/lang/Exception"]
def cVmOk (E : String) (names : List String) : Prop := cWd (vx_atM E names) = true ∧ (∀ w ∈ vx_atM E names, vx_ot w = true) ∧ Bundle.fit E = true ∧ (∀ n ∈ names, Bundle.fit n = true) ∧ (E == "java/lang/StackOverflowError") = false ∧ (E == "java/lang/OutOfMemoryError") = false ∧ names.length ≤ 5
theorem cVm_A : cVmOk cEA cnA := ⟨by decide +kernel, by decide +kernel, by decide +kernel, by decide +kernel, by decide +kernel, by decide +kernel, by decide +kernel⟩
theorem cVm_C : cVmOk cEC cnC := ⟨by decide +kernel, by decide +kernel, by decide +kernel, by decide +kernel, by decide +kernel, by decide +kernel, by decide +kernel⟩
theorem cVm_S : cVmOk cES cnC := ⟨by decide +kernel, by decide +kernel, by decide +kernel, by decide +kernel, by decide +kernel, by decide +kernel, by decide +kernel⟩
