/-! java/lang/Float -/
set_option maxRecDepth 100000
def RJ24 : String := "java/lang/Float"
abbrev cJ24_isNaN : ByteArray := prog_19_method_6_code
def yJ24_isNaN : MethodName := ⟨RJ24, "isNaN", "(F)Z"⟩
def dkwJ24_isNaN_0 : List UInt8 := [34, 34, 149, 153, 0, 7, 4, 167, 0, 4, 3, 172]
abbrev dktJ24_isNaN_0 : List UInt8 := dkwJ24_isNaN_0 ++ []
theorem dksJ24_isNaN_0 : cJ24_isNaN.data.toList.drop 0 = dktJ24_isNaN_0 := by decide +kernel
theorem dJ24_isNaN_0 : decode cJ24_isNaN 0 = .ok (.fload_n 0, 1) := dk_34 (dk_at dksJ24_isNaN_0 0 rfl rfl)
theorem dJ24_isNaN_1 : decode cJ24_isNaN 1 = .ok (.fload_n 0, 1) := dk_34 (dk_at dksJ24_isNaN_0 1 rfl rfl)
theorem dJ24_isNaN_2 : decode cJ24_isNaN 2 = .ok (.fcmp .l, 1) := dk_149 (dk_at dksJ24_isNaN_0 2 rfl rfl)
theorem dJ24_isNaN_3 : decode cJ24_isNaN 3 = .ok (.ifCond .eq 7, 3) := dk_153 0 7 (dk_at dksJ24_isNaN_0 3 rfl rfl)
theorem dJ24_isNaN_6 : decode cJ24_isNaN 6 = .ok (.iconst 1, 1) := dk_4 (dk_at dksJ24_isNaN_0 6 rfl rfl)
theorem dJ24_isNaN_7 : decode cJ24_isNaN 7 = .ok (.goto 4, 3) := dk_167 0 4 (dk_at dksJ24_isNaN_0 7 rfl rfl)
theorem dJ24_isNaN_10 : decode cJ24_isNaN 10 = .ok (.iconst 0, 1) := dk_3 (dk_at dksJ24_isNaN_0 10 rfl rfl)
theorem dJ24_isNaN_11 : decode cJ24_isNaN 11 = .ok (.ireturn, 1) := dk_172 (dk_at dksJ24_isNaN_0 11 rfl rfl)
theorem q119 : (Jvm.Cond.initialized "java/lang/Float") ∈ lw_all := lw_g (lw_at lw_m1 32 rfl) rfl
theorem q804 : (Jvm.Cond.static ({ cls := "java/lang/Float", name := "isNaN", desc := "(F)Z" } : Jvm.MethodName)) ∈ lw_all := lw_g (lw_at lw_m3 237 rfl) rfl
theorem q805 : (Jvm.Cond.code ({ cls := "java/lang/Float", name := "isNaN", desc := "(F)Z" } : Jvm.MethodName) prog_19_method_6_code (1 : Nat) (Option.some Jvm.ClassFile.FieldType.boolean)) ∈ lw_all := lw_g (lw_at lw_m3 238 rfl) rfl
