/-! THE QUOTIENTS ARE NUMBERS -/
set_option maxRecDepth 100000
theorem vf_share : ∀ s : Fin 11, ∀ n : Fin 10, (FP.fdiv (FP.i2f (nI s.1)) (FP.i2f (nI (n.1 + 1)))) &&& 0x7fffffff ≤ 0x7f800000 := by decide +kernel
theorem vf_mean : ∀ s : Fin 501, ∀ n : Fin 10, (FP.ddiv (FP.i2d (nI s.1)) (FP.i2d (nI (n.1 + 1)))) &&& 0x7fffffffffffffff ≤ 0x7ff0000000000000 := by decide +kernel
