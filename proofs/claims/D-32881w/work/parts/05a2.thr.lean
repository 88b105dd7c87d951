/-! ===== the words of the exceptions ===== -/
set_option maxRecDepth 100000
def aSup : List String := ["java/lang/RuntimeException", "java/lang/Exception"]
theorem aTh_1 : ∀ w ∈ vx_atS "FigureSurvey" 132 "java/lang/IndexOutOfBoundsException" aSup, w ∈ gl ∧ vx_ot w = true := by
  have h : (vx_atS "FigureSurvey" 132 "java/lang/IndexOutOfBoundsException" aSup).all (fun w => decide (w ∈ gl) && vx_ot w) = true := by decide +kernel
  intro w hw
  have := List.all_eq_true.mp h w hw
  simpa using this
theorem aTh_2 : ∀ w ∈ vx_atS "FigureSurvey" 123 "java/lang/IllegalArgumentException" aSup, w ∈ gl ∧ vx_ot w = true := by
  have h : (vx_atS "FigureSurvey" 123 "java/lang/IllegalArgumentException" aSup).all (fun w => decide (w ∈ gl) && vx_ot w) = true := by decide +kernel
  intro w hw
  have := List.all_eq_true.mp h w hw
  simpa using this
theorem aTh_3 : ∀ w ∈ vx_atS "FigureSurvey" 137 "java/lang/IllegalStateException" aSup, w ∈ gl ∧ vx_ot w = true := by
  have h : (vx_atS "FigureSurvey" 137 "java/lang/IllegalStateException" aSup).all (fun w => decide (w ∈ gl) && vx_ot w) = true := by decide +kernel
  intro w hw
  have := List.all_eq_true.mp h w hw
  simpa using this
