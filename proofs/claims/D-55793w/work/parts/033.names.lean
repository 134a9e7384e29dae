/-! ParityMaze$Room -/
set_option maxRecDepth 100000
def RX3 : String := "ParityMaze$Room"
def TX3 : u_T := fun k => match k with
  | 0 => ("ParityMaze$Room", "keys", "[I", true)
  | _ => ("ParityMaze$Room", "oil", "I", false)
def tyX3 : Nat → FieldType := fun k => match k with
  | 0 => .array .int
  | _ => .int
abbrev wsX30 : List Cond := u_ws RX3 TX3 2
theorem nmX3 : ∀ a, a < 2 → ∀ b, b < 2 → a ≠ b → (TX3 a).2.1 ≠ (TX3 b).2.1 := by decide +kernel
theorem tyX3_ok : ∀ k, k < 2 → parseFieldDescriptor (TX3 k).2.2.1 = some (tyX3 k) := by decide +kernel
abbrev cX3_copy : ByteArray := prog_7_method_3_code
def yX3_copy : MethodName := ⟨RX3, "copy", "()LParityMaze$Room;"⟩
def dkwX3_copy_1 : List UInt8 := [167, 255, 239, 187, 0, 4, 89, 42, 180, 0, 14, 43, 183, 0, 3, 176]
abbrev dktX3_copy_1 : List UInt8 := dkwX3_copy_1 ++ []
def dkwX3_copy_0 : List UInt8 := [6, 188, 10, 76, 3, 61, 28, 6, 162, 0, 18, 43, 28, 42, 180, 0, 18, 28, 46, 79, 132, 2, 1]
abbrev dktX3_copy_0 : List UInt8 := dkwX3_copy_0 ++ dktX3_copy_1
theorem dksX3_copy_0 : cX3_copy.data.toList.drop 0 = dktX3_copy_0 := by decide +kernel
theorem dksX3_copy_1 : cX3_copy.data.toList.drop 23 = dktX3_copy_1 := dk_seg dksX3_copy_0 23 rfl rfl
theorem dX3_copy_0 : decode cX3_copy 0 = .ok (.iconst 3, 1) := dk_6 (dk_at dksX3_copy_0 0 rfl rfl)
theorem dX3_copy_1 : decode cX3_copy 1 = .ok (.newarray .int, 2) := dk_188_10 (dk_at dksX3_copy_0 1 rfl rfl)
theorem dX3_copy_3 : decode cX3_copy 3 = .ok (.astore_n 1, 1) := dk_76 (dk_at dksX3_copy_0 3 rfl rfl)
theorem dX3_copy_4 : decode cX3_copy 4 = .ok (.iconst 0, 1) := dk_3 (dk_at dksX3_copy_0 4 rfl rfl)
theorem dX3_copy_5 : decode cX3_copy 5 = .ok (.istore_n 2, 1) := dk_61 (dk_at dksX3_copy_0 5 rfl rfl)
theorem dX3_copy_6 : decode cX3_copy 6 = .ok (.iload_n 2, 1) := dk_28 (dk_at dksX3_copy_0 6 rfl rfl)
theorem dX3_copy_7 : decode cX3_copy 7 = .ok (.iconst 3, 1) := dk_6 (dk_at dksX3_copy_0 7 rfl rfl)
theorem dX3_copy_8 : decode cX3_copy 8 = .ok (.if_icmp .ge 18, 3) := dk_162 0 18 (dk_at dksX3_copy_0 8 rfl rfl)
theorem dX3_copy_11 : decode cX3_copy 11 = .ok (.aload_n 1, 1) := dk_43 (dk_at dksX3_copy_0 11 rfl rfl)
theorem dX3_copy_12 : decode cX3_copy 12 = .ok (.iload_n 2, 1) := dk_28 (dk_at dksX3_copy_0 12 rfl rfl)
theorem dX3_copy_13 : decode cX3_copy 13 = .ok (.aload_n 0, 1) := dk_42 (dk_at dksX3_copy_0 13 rfl rfl)
theorem dX3_copy_14 : decode cX3_copy 14 = .ok (.getfield 18, 3) := dk_180 0 18 (dk_at dksX3_copy_0 14 rfl rfl)
theorem dX3_copy_17 : decode cX3_copy 17 = .ok (.iload_n 2, 1) := dk_28 (dk_at dksX3_copy_0 17 rfl rfl)
theorem dX3_copy_18 : decode cX3_copy 18 = .ok (.iaload, 1) := dk_46 (dk_at dksX3_copy_0 18 rfl rfl)
theorem dX3_copy_19 : decode cX3_copy 19 = .ok (.iastore, 1) := dk_79 (dk_at dksX3_copy_0 19 rfl rfl)
theorem dX3_copy_20 : decode cX3_copy 20 = .ok (.iinc 2 1, 3) := dk_132 2 1 (dk_at dksX3_copy_0 20 rfl rfl)
theorem dX3_copy_23 : decode cX3_copy 23 = .ok (.goto (-17), 3) := dk_167 255 239 (dk_at dksX3_copy_1 0 rfl rfl)
theorem dX3_copy_26 : decode cX3_copy 26 = .ok (.new 4, 3) := dk_187 0 4 (dk_at dksX3_copy_1 3 rfl rfl)
theorem dX3_copy_29 : decode cX3_copy 29 = .ok (.dup, 1) := dk_89 (dk_at dksX3_copy_1 6 rfl rfl)
theorem dX3_copy_30 : decode cX3_copy 30 = .ok (.aload_n 0, 1) := dk_42 (dk_at dksX3_copy_1 7 rfl rfl)
theorem dX3_copy_31 : decode cX3_copy 31 = .ok (.getfield 14, 3) := dk_180 0 14 (dk_at dksX3_copy_1 8 rfl rfl)
theorem dX3_copy_34 : decode cX3_copy 34 = .ok (.aload_n 1, 1) := dk_43 (dk_at dksX3_copy_1 11 rfl rfl)
theorem dX3_copy_35 : decode cX3_copy 35 = .ok (.invokespecial 3, 3) := dk_183 0 3 (dk_at dksX3_copy_1 12 rfl rfl)
theorem dX3_copy_38 : decode cX3_copy 38 = .ok (.areturn, 1) := dk_176 (dk_at dksX3_copy_1 15 rfl rfl)
abbrev cX3_init : ByteArray := prog_7_method_2_code
def yX3_init : MethodName := ⟨RX3, "<init>", "(I[I)V"⟩
def dkwX3_init_0 : List UInt8 := [42, 183, 0, 9, 42, 27, 181, 0, 14, 42, 44, 181, 0, 18, 177]
abbrev dktX3_init_0 : List UInt8 := dkwX3_init_0 ++ []
theorem dksX3_init_0 : cX3_init.data.toList.drop 0 = dktX3_init_0 := by decide +kernel
theorem dX3_init_0 : decode cX3_init 0 = .ok (.aload_n 0, 1) := dk_42 (dk_at dksX3_init_0 0 rfl rfl)
theorem dX3_init_1 : decode cX3_init 1 = .ok (.invokespecial 9, 3) := dk_183 0 9 (dk_at dksX3_init_0 1 rfl rfl)
theorem dX3_init_4 : decode cX3_init 4 = .ok (.aload_n 0, 1) := dk_42 (dk_at dksX3_init_0 4 rfl rfl)
theorem dX3_init_5 : decode cX3_init 5 = .ok (.iload_n 1, 1) := dk_27 (dk_at dksX3_init_0 5 rfl rfl)
theorem dX3_init_6 : decode cX3_init 6 = .ok (.putfield 14, 3) := dk_181 0 14 (dk_at dksX3_init_0 6 rfl rfl)
theorem dX3_init_9 : decode cX3_init 9 = .ok (.aload_n 0, 1) := dk_42 (dk_at dksX3_init_0 9 rfl rfl)
theorem dX3_init_10 : decode cX3_init 10 = .ok (.aload_n 2, 1) := dk_44 (dk_at dksX3_init_0 10 rfl rfl)
theorem dX3_init_11 : decode cX3_init 11 = .ok (.putfield 18, 3) := dk_181 0 18 (dk_at dksX3_init_0 11 rfl rfl)
theorem dX3_init_14 : decode cX3_init 14 = .ok (.return_, 1) := dk_177 (dk_at dksX3_init_0 14 rfl rfl)
abbrev cX3_init_2 : ByteArray := prog_7_method_1_code
def yX3_init_2 : MethodName := ⟨RX3, "<init>", "(I)V"⟩
def dkwX3_init_2_0 : List UInt8 := [42, 27, 6, 188, 10, 183, 0, 3, 177]
abbrev dktX3_init_2_0 : List UInt8 := dkwX3_init_2_0 ++ []
theorem dksX3_init_2_0 : cX3_init_2.data.toList.drop 0 = dktX3_init_2_0 := by decide +kernel
theorem dX3_init_2_0 : decode cX3_init_2 0 = .ok (.aload_n 0, 1) := dk_42 (dk_at dksX3_init_2_0 0 rfl rfl)
theorem dX3_init_2_1 : decode cX3_init_2 1 = .ok (.iload_n 1, 1) := dk_27 (dk_at dksX3_init_2_0 1 rfl rfl)
theorem dX3_init_2_2 : decode cX3_init_2 2 = .ok (.iconst 3, 1) := dk_6 (dk_at dksX3_init_2_0 2 rfl rfl)
theorem dX3_init_2_3 : decode cX3_init_2 3 = .ok (.newarray .int, 2) := dk_188_10 (dk_at dksX3_init_2_0 3 rfl rfl)
theorem dX3_init_2_5 : decode cX3_init_2 5 = .ok (.invokespecial 3, 3) := dk_183 0 3 (dk_at dksX3_init_2_0 5 rfl rfl)
theorem dX3_init_2_8 : decode cX3_init_2 8 = .ok (.return_, 1) := dk_177 (dk_at dksX3_init_2_0 8 rfl rfl)
abbrev cX3_steps : ByteArray := prog_7_method_5_code
def yX3_steps : MethodName := ⟨RX3, "steps", "()I"⟩
def dkwX3_steps_0 : List UInt8 := [42, 182, 0, 22, 153, 0, 7, 4, 167, 0, 4, 5, 172]
abbrev dktX3_steps_0 : List UInt8 := dkwX3_steps_0 ++ []
theorem dksX3_steps_0 : cX3_steps.data.toList.drop 0 = dktX3_steps_0 := by decide +kernel
theorem dX3_steps_0 : decode cX3_steps 0 = .ok (.aload_n 0, 1) := dk_42 (dk_at dksX3_steps_0 0 rfl rfl)
theorem dX3_steps_1 : decode cX3_steps 1 = .ok (.invokevirtual 22, 3) := dk_182 0 22 (dk_at dksX3_steps_0 1 rfl rfl)
theorem dX3_steps_4 : decode cX3_steps 4 = .ok (.ifCond .eq 7, 3) := dk_153 0 7 (dk_at dksX3_steps_0 4 rfl rfl)
theorem dX3_steps_7 : decode cX3_steps 7 = .ok (.iconst 1, 1) := dk_4 (dk_at dksX3_steps_0 7 rfl rfl)
theorem dX3_steps_8 : decode cX3_steps 8 = .ok (.goto 4, 3) := dk_167 0 4 (dk_at dksX3_steps_0 8 rfl rfl)
theorem dX3_steps_11 : decode cX3_steps 11 = .ok (.iconst 2, 1) := dk_5 (dk_at dksX3_steps_0 11 rfl rfl)
theorem dX3_steps_12 : decode cX3_steps 12 = .ok (.ireturn, 1) := dk_172 (dk_at dksX3_steps_0 12 rfl rfl)
abbrev cX3_isLit : ByteArray := prog_7_method_4_code
def yX3_isLit : MethodName := ⟨RX3, "isLit", "()Z"⟩
def dkwX3_isLit_0 : List UInt8 := [42, 180, 0, 14, 158, 0, 7, 4, 167, 0, 4, 3, 172]
abbrev dktX3_isLit_0 : List UInt8 := dkwX3_isLit_0 ++ []
theorem dksX3_isLit_0 : cX3_isLit.data.toList.drop 0 = dktX3_isLit_0 := by decide +kernel
theorem dX3_isLit_0 : decode cX3_isLit 0 = .ok (.aload_n 0, 1) := dk_42 (dk_at dksX3_isLit_0 0 rfl rfl)
theorem dX3_isLit_1 : decode cX3_isLit 1 = .ok (.getfield 14, 3) := dk_180 0 14 (dk_at dksX3_isLit_0 1 rfl rfl)
theorem dX3_isLit_4 : decode cX3_isLit 4 = .ok (.ifCond .le 7, 3) := dk_158 0 7 (dk_at dksX3_isLit_0 4 rfl rfl)
theorem dX3_isLit_7 : decode cX3_isLit 7 = .ok (.iconst 1, 1) := dk_4 (dk_at dksX3_isLit_0 7 rfl rfl)
theorem dX3_isLit_8 : decode cX3_isLit 8 = .ok (.goto 4, 3) := dk_167 0 4 (dk_at dksX3_isLit_0 8 rfl rfl)
theorem dX3_isLit_11 : decode cX3_isLit 11 = .ok (.iconst 0, 1) := dk_3 (dk_at dksX3_isLit_0 11 rfl rfl)
theorem dX3_isLit_12 : decode cX3_isLit 12 = .ok (.ireturn, 1) := dk_172 (dk_at dksX3_isLit_0 12 rfl rfl)
abbrev cX3_text : ByteArray := prog_7_method_6_code
def yX3_text : MethodName := ⟨RX3, "text", "(IZ)Ljava/lang/String;"⟩
def dkwX3_text_3 : List UInt8 := [28, 153, 0, 8, 18, 36, 167, 0, 5, 18, 38, 182, 0, 40, 182, 0, 43, 176]
abbrev dktX3_text_3 : List UInt8 := dkwX3_text_3 ++ []
def dkwX3_text_2 : List UInt8 := [45, 16, 97, 21, 4, 96, 146, 182, 0, 33, 87, 132, 5, 1, 167, 255, 230, 132, 4, 1, 167, 255, 215, 45]
abbrev dktX3_text_2 : List UInt8 := dkwX3_text_2 ++ dktX3_text_3
def dkwX3_text_1 : List UInt8 := [3, 54, 4, 21, 4, 6, 162, 0, 41, 3, 54, 5, 21, 5, 42, 180, 0, 18, 21, 4, 46, 162, 0, 20]
abbrev dktX3_text_1 : List UInt8 := dkwX3_text_1 ++ dktX3_text_2
def dkwX3_text_0 : List UInt8 := [187, 0, 26, 89, 183, 0, 28, 27, 182, 0, 29, 16, 42, 182, 0, 33, 42, 180, 0, 14, 182, 0, 29, 78]
abbrev dktX3_text_0 : List UInt8 := dkwX3_text_0 ++ dktX3_text_1
theorem dksX3_text_0 : cX3_text.data.toList.drop 0 = dktX3_text_0 := by decide +kernel
theorem dksX3_text_1 : cX3_text.data.toList.drop 24 = dktX3_text_1 := dk_seg dksX3_text_0 24 rfl rfl
theorem dksX3_text_2 : cX3_text.data.toList.drop 48 = dktX3_text_2 := dk_seg dksX3_text_1 24 rfl rfl
theorem dksX3_text_3 : cX3_text.data.toList.drop 72 = dktX3_text_3 := dk_seg dksX3_text_2 24 rfl rfl
theorem dX3_text_0 : decode cX3_text 0 = .ok (.new 26, 3) := dk_187 0 26 (dk_at dksX3_text_0 0 rfl rfl)
theorem dX3_text_3 : decode cX3_text 3 = .ok (.dup, 1) := dk_89 (dk_at dksX3_text_0 3 rfl rfl)
theorem dX3_text_4 : decode cX3_text 4 = .ok (.invokespecial 28, 3) := dk_183 0 28 (dk_at dksX3_text_0 4 rfl rfl)
theorem dX3_text_7 : decode cX3_text 7 = .ok (.iload_n 1, 1) := dk_27 (dk_at dksX3_text_0 7 rfl rfl)
theorem dX3_text_8 : decode cX3_text 8 = .ok (.invokevirtual 29, 3) := dk_182 0 29 (dk_at dksX3_text_0 8 rfl rfl)
theorem dX3_text_11 : decode cX3_text 11 = .ok (.bipush 42, 2) := dk_16 42 (dk_at dksX3_text_0 11 rfl rfl)
theorem dX3_text_13 : decode cX3_text 13 = .ok (.invokevirtual 33, 3) := dk_182 0 33 (dk_at dksX3_text_0 13 rfl rfl)
theorem dX3_text_16 : decode cX3_text 16 = .ok (.aload_n 0, 1) := dk_42 (dk_at dksX3_text_0 16 rfl rfl)
theorem dX3_text_17 : decode cX3_text 17 = .ok (.getfield 14, 3) := dk_180 0 14 (dk_at dksX3_text_0 17 rfl rfl)
theorem dX3_text_20 : decode cX3_text 20 = .ok (.invokevirtual 29, 3) := dk_182 0 29 (dk_at dksX3_text_0 20 rfl rfl)
theorem dX3_text_23 : decode cX3_text 23 = .ok (.astore_n 3, 1) := dk_78 (dk_at dksX3_text_0 23 rfl rfl)
theorem dX3_text_24 : decode cX3_text 24 = .ok (.iconst 0, 1) := dk_3 (dk_at dksX3_text_1 0 rfl rfl)
theorem dX3_text_25 : decode cX3_text 25 = .ok (.istore 4, 2) := dk_54 4 (dk_at dksX3_text_1 1 rfl rfl)
theorem dX3_text_27 : decode cX3_text 27 = .ok (.iload 4, 2) := dk_21 4 (dk_at dksX3_text_1 3 rfl rfl)
theorem dX3_text_29 : decode cX3_text 29 = .ok (.iconst 3, 1) := dk_6 (dk_at dksX3_text_1 5 rfl rfl)
theorem dX3_text_30 : decode cX3_text 30 = .ok (.if_icmp .ge 41, 3) := dk_162 0 41 (dk_at dksX3_text_1 6 rfl rfl)
theorem dX3_text_33 : decode cX3_text 33 = .ok (.iconst 0, 1) := dk_3 (dk_at dksX3_text_1 9 rfl rfl)
theorem dX3_text_34 : decode cX3_text 34 = .ok (.istore 5, 2) := dk_54 5 (dk_at dksX3_text_1 10 rfl rfl)
theorem dX3_text_36 : decode cX3_text 36 = .ok (.iload 5, 2) := dk_21 5 (dk_at dksX3_text_1 12 rfl rfl)
theorem dX3_text_38 : decode cX3_text 38 = .ok (.aload_n 0, 1) := dk_42 (dk_at dksX3_text_1 14 rfl rfl)
theorem dX3_text_39 : decode cX3_text 39 = .ok (.getfield 18, 3) := dk_180 0 18 (dk_at dksX3_text_1 15 rfl rfl)
theorem dX3_text_42 : decode cX3_text 42 = .ok (.iload 4, 2) := dk_21 4 (dk_at dksX3_text_1 18 rfl rfl)
theorem dX3_text_44 : decode cX3_text 44 = .ok (.iaload, 1) := dk_46 (dk_at dksX3_text_1 20 rfl rfl)
theorem dX3_text_45 : decode cX3_text 45 = .ok (.if_icmp .ge 20, 3) := dk_162 0 20 (dk_at dksX3_text_1 21 rfl rfl)
theorem dX3_text_48 : decode cX3_text 48 = .ok (.aload_n 3, 1) := dk_45 (dk_at dksX3_text_2 0 rfl rfl)
theorem dX3_text_49 : decode cX3_text 49 = .ok (.bipush 97, 2) := dk_16 97 (dk_at dksX3_text_2 1 rfl rfl)
theorem dX3_text_51 : decode cX3_text 51 = .ok (.iload 4, 2) := dk_21 4 (dk_at dksX3_text_2 3 rfl rfl)
theorem dX3_text_53 : decode cX3_text 53 = .ok (.iadd, 1) := dk_96 (dk_at dksX3_text_2 5 rfl rfl)
theorem dX3_text_54 : decode cX3_text 54 = .ok (.i2c, 1) := dk_146 (dk_at dksX3_text_2 6 rfl rfl)
theorem dX3_text_55 : decode cX3_text 55 = .ok (.invokevirtual 33, 3) := dk_182 0 33 (dk_at dksX3_text_2 7 rfl rfl)
theorem dX3_text_58 : decode cX3_text 58 = .ok (.pop, 1) := dk_87 (dk_at dksX3_text_2 10 rfl rfl)
theorem dX3_text_59 : decode cX3_text 59 = .ok (.iinc 5 1, 3) := dk_132 5 1 (dk_at dksX3_text_2 11 rfl rfl)
theorem dX3_text_62 : decode cX3_text 62 = .ok (.goto (-26), 3) := dk_167 255 230 (dk_at dksX3_text_2 14 rfl rfl)
theorem dX3_text_65 : decode cX3_text 65 = .ok (.iinc 4 1, 3) := dk_132 4 1 (dk_at dksX3_text_2 17 rfl rfl)
theorem dX3_text_68 : decode cX3_text 68 = .ok (.goto (-41), 3) := dk_167 255 215 (dk_at dksX3_text_2 20 rfl rfl)
theorem dX3_text_71 : decode cX3_text 71 = .ok (.aload_n 3, 1) := dk_45 (dk_at dksX3_text_2 23 rfl rfl)
theorem dX3_text_72 : decode cX3_text 72 = .ok (.iload_n 2, 1) := dk_28 (dk_at dksX3_text_3 0 rfl rfl)
theorem dX3_text_73 : decode cX3_text 73 = .ok (.ifCond .eq 8, 3) := dk_153 0 8 (dk_at dksX3_text_3 1 rfl rfl)
theorem dX3_text_76 : decode cX3_text 76 = .ok (.ldc 36, 2) := dk_18 36 (dk_at dksX3_text_3 4 rfl rfl)
theorem dX3_text_78 : decode cX3_text 78 = .ok (.goto 5, 3) := dk_167 0 5 (dk_at dksX3_text_3 6 rfl rfl)
theorem dX3_text_81 : decode cX3_text 81 = .ok (.ldc 38, 2) := dk_18 38 (dk_at dksX3_text_3 9 rfl rfl)
theorem dX3_text_83 : decode cX3_text 83 = .ok (.invokevirtual 40, 3) := dk_182 0 40 (dk_at dksX3_text_3 11 rfl rfl)
theorem dX3_text_86 : decode cX3_text 86 = .ok (.invokevirtual 43, 3) := dk_182 0 43 (dk_at dksX3_text_3 14 rfl rfl)
theorem dX3_text_89 : decode cX3_text 89 = .ok (.areturn, 1) := dk_176 (dk_at dksX3_text_3 17 rfl rfl)
theorem q100 : (Jvm.Cond.initialized "ParityMaze$Room") ∈ lw_all := lw_g (lw_at lw_m1 13 rfl) rfl
theorem q404 : (Jvm.Cond.instanceMethod ({ cls := "ParityMaze$Room", name := "copy", desc := "()LParityMaze$Room;" } : Jvm.MethodName)) ∈ lw_all := lw_g (lw_at lw_m2 77 rfl) rfl
theorem q405 : (Jvm.Cond.selects "ParityMaze$Room" ({ cls := "ParityMaze$Room", name := "copy", desc := "()LParityMaze$Room;" } : Jvm.MethodName) ({ cls := "ParityMaze$Room", name := "copy", desc := "()LParityMaze$Room;" } : Jvm.MethodName)) ∈ lw_all := lw_g (lw_at lw_m2 78 rfl) rfl
theorem q406 : (Jvm.Cond.code ({ cls := "ParityMaze$Room", name := "copy", desc := "()LParityMaze$Room;" } : Jvm.MethodName) prog_7_method_3_code (3 : Nat) (Option.some (Jvm.ClassFile.FieldType.object "ParityMaze$Room"))) ∈ lw_all := lw_g (lw_at lw_m2 79 rfl) rfl
theorem q407 : (Jvm.Cond.classLink "ParityMaze$Room" (4 : Nat) "ParityMaze$Room") ∈ lw_all := lw_g (lw_at lw_m2 80 rfl) rfl
theorem q408 : (Jvm.Cond.instantiable "ParityMaze$Room" (2 : Nat)) ∈ lw_all := lw_g (lw_at lw_m2 81 rfl) rfl
theorem q409 : (Jvm.Cond.methodLink "ParityMaze$Room" (3 : Nat) ({ cls := "ParityMaze$Room", name := "<init>", desc := "(I[I)V" } : Jvm.MethodName)) ∈ lw_all := lw_g (lw_at lw_m2 82 rfl) rfl
theorem q410 : (Jvm.Cond.instanceMethod ({ cls := "ParityMaze$Room", name := "<init>", desc := "(I[I)V" } : Jvm.MethodName)) ∈ lw_all := lw_g (lw_at lw_m2 83 rfl) rfl
theorem q411 : (Jvm.Cond.code ({ cls := "ParityMaze$Room", name := "<init>", desc := "(I[I)V" } : Jvm.MethodName) prog_7_method_2_code (3 : Nat) (Option.none : Option Jvm.ClassFile.FieldType)) ∈ lw_all := lw_g (lw_at lw_m2 84 rfl) rfl
theorem q412 : (Jvm.Cond.methodLink "ParityMaze$Room" (9 : Nat) ({ cls := "java/lang/Object", name := "<init>", desc := "()V" } : Jvm.MethodName)) ∈ lw_all := lw_g (lw_at lw_m2 85 rfl) rfl
theorem q413 : (Jvm.Cond.fieldLink "ParityMaze$Room" (18 : Nat) "ParityMaze$Room" "keys" "[I") ∈ lw_all := lw_g (lw_at lw_m2 86 rfl) rfl
theorem q415 : (Jvm.Cond.fieldLink "ParityMaze$Room" (14 : Nat) "ParityMaze$Room" "oil" "I") ∈ lw_all := lw_g (lw_at lw_m2 88 rfl) rfl
theorem q417 : (Jvm.Cond.laysFinal "ParityMaze$Room" "ParityMaze$Room" "keys" "[I") ∈ lw_all := lw_g (lw_at lw_m2 90 rfl) rfl
theorem q418 : (Jvm.Cond.soleField "ParityMaze$Room" "keys") ∈ lw_all := lw_g (lw_at lw_m2 91 rfl) rfl
theorem q419 : (Jvm.Cond.lays "ParityMaze$Room" "ParityMaze$Room" "oil" "I") ∈ lw_all := lw_g (lw_at lw_m2 92 rfl) rfl
theorem q420 : (Jvm.Cond.soleField "ParityMaze$Room" "oil") ∈ lw_all := lw_g (lw_at lw_m2 93 rfl) rfl
theorem q421 : (Jvm.Cond.superclass "ParityMaze$Room" "java/lang/Object") ∈ lw_all := lw_g (lw_at lw_m2 94 rfl) rfl
theorem q462 : (Jvm.Cond.selects "ParityMaze$Room" ({ cls := "java/lang/Object", name := "getClass", desc := "()Ljava/lang/Class;" } : Jvm.MethodName) ({ cls := "java/lang/Object", name := "getClass", desc := "()Ljava/lang/Class;" } : Jvm.MethodName)) ∈ lw_all := lw_g (lw_at lw_m2 135 rfl) rfl
theorem q583 : (Jvm.Cond.instanceMethod ({ cls := "ParityMaze$Room", name := "<init>", desc := "(I)V" } : Jvm.MethodName)) ∈ lw_all := lw_g (lw_at lw_m3 16 rfl) rfl
theorem q584 : (Jvm.Cond.code ({ cls := "ParityMaze$Room", name := "<init>", desc := "(I)V" } : Jvm.MethodName) prog_7_method_1_code (2 : Nat) (Option.none : Option Jvm.ClassFile.FieldType)) ∈ lw_all := lw_g (lw_at lw_m3 17 rfl) rfl
theorem q990 : (Jvm.Cond.selects "ParityMaze$Room" ({ cls := "java/lang/Object", name := "hashCode", desc := "()I" } : Jvm.MethodName) ({ cls := "java/lang/Object", name := "hashCode", desc := "()I" } : Jvm.MethodName)) ∈ lw_all := lw_g (lw_at lw_m4 183 rfl) rfl
theorem q1413 : (Jvm.Cond.selects "ParityMaze$Room" ({ cls := "java/lang/Object", name := "equals", desc := "(Ljava/lang/Object;)Z" } : Jvm.MethodName) ({ cls := "java/lang/Object", name := "equals", desc := "(Ljava/lang/Object;)Z" } : Jvm.MethodName)) ∈ lw_all := lw_g (lw_at lw_m6 126 rfl) rfl
theorem q1576 : (Jvm.Cond.instanceMethod ({ cls := "ParityMaze$Room", name := "steps", desc := "()I" } : Jvm.MethodName)) ∈ lw_all := lw_g (lw_at lw_m7 49 rfl) rfl
theorem q1577 : (Jvm.Cond.selects "ParityMaze$Room" ({ cls := "ParityMaze$Room", name := "steps", desc := "()I" } : Jvm.MethodName) ({ cls := "ParityMaze$Room", name := "steps", desc := "()I" } : Jvm.MethodName)) ∈ lw_all := lw_g (lw_at lw_m7 50 rfl) rfl
theorem q1578 : (Jvm.Cond.code ({ cls := "ParityMaze$Room", name := "steps", desc := "()I" } : Jvm.MethodName) prog_7_method_5_code (1 : Nat) (Option.some Jvm.ClassFile.FieldType.int)) ∈ lw_all := lw_g (lw_at lw_m7 51 rfl) rfl
theorem q1579 : (Jvm.Cond.methodLink "ParityMaze$Room" (22 : Nat) ({ cls := "ParityMaze$Room", name := "isLit", desc := "()Z" } : Jvm.MethodName)) ∈ lw_all := lw_g (lw_at lw_m7 52 rfl) rfl
theorem q1580 : (Jvm.Cond.instanceMethod ({ cls := "ParityMaze$Room", name := "isLit", desc := "()Z" } : Jvm.MethodName)) ∈ lw_all := lw_g (lw_at lw_m7 53 rfl) rfl
theorem q1581 : (Jvm.Cond.selects "ParityMaze$Room" ({ cls := "ParityMaze$Room", name := "isLit", desc := "()Z" } : Jvm.MethodName) ({ cls := "ParityMaze$Room", name := "isLit", desc := "()Z" } : Jvm.MethodName)) ∈ lw_all := lw_g (lw_at lw_m7 54 rfl) rfl
theorem q1582 : (Jvm.Cond.code ({ cls := "ParityMaze$Room", name := "isLit", desc := "()Z" } : Jvm.MethodName) prog_7_method_4_code (1 : Nat) (Option.some Jvm.ClassFile.FieldType.boolean)) ∈ lw_all := lw_g (lw_at lw_m7 55 rfl) rfl
theorem q2238 : (Jvm.Cond.instanceMethod ({ cls := "ParityMaze$Room", name := "text", desc := "(IZ)Ljava/lang/String;" } : Jvm.MethodName)) ∈ lw_all := lw_g (lw_at lw_m9 231 rfl) rfl
theorem q2239 : (Jvm.Cond.selects "ParityMaze$Room" ({ cls := "ParityMaze$Room", name := "text", desc := "(IZ)Ljava/lang/String;" } : Jvm.MethodName) ({ cls := "ParityMaze$Room", name := "text", desc := "(IZ)Ljava/lang/String;" } : Jvm.MethodName)) ∈ lw_all := lw_g (lw_at lw_m9 232 rfl) rfl
theorem q2240 : (Jvm.Cond.code ({ cls := "ParityMaze$Room", name := "text", desc := "(IZ)Ljava/lang/String;" } : Jvm.MethodName) prog_7_method_6_code (6 : Nat) (Option.some (Jvm.ClassFile.FieldType.object "java/lang/String"))) ∈ lw_all := lw_g (lw_at lw_m9 233 rfl) rfl
theorem q2241 : (Jvm.Cond.classLink "ParityMaze$Room" (26 : Nat) "java/lang/StringBuilder") ∈ lw_all := lw_g (lw_at lw_m9 234 rfl) rfl
theorem q2242 : (Jvm.Cond.methodLink "ParityMaze$Room" (28 : Nat) ({ cls := "java/lang/StringBuilder", name := "<init>", desc := "()V" } : Jvm.MethodName)) ∈ lw_all := lw_g (lw_at lw_m9 235 rfl) rfl
theorem q2243 : (Jvm.Cond.methodLink "ParityMaze$Room" (29 : Nat) ({ cls := "java/lang/StringBuilder", name := "append", desc := "(I)Ljava/lang/StringBuilder;" } : Jvm.MethodName)) ∈ lw_all := lw_g (lw_at lw_m9 236 rfl) rfl
theorem q2274 : (Jvm.Cond.methodLink "ParityMaze$Room" (33 : Nat) ({ cls := "java/lang/StringBuilder", name := "append", desc := "(C)Ljava/lang/StringBuilder;" } : Jvm.MethodName)) ∈ lw_all := lw_g (lw_at lw_m10 27 rfl) rfl
theorem q2275 : (Jvm.Cond.stringRef "ParityMaze$Room" (36 : Nat) "@") ∈ lw_tbl := lw_at lw_m10 28 rfl
theorem q2276 : (Jvm.Cond.stringRef "ParityMaze$Room" (38 : Nat) "") ∈ lw_tbl := lw_at lw_m10 29 rfl
theorem q2277 : (Jvm.Cond.methodLink "ParityMaze$Room" (40 : Nat) ({ cls := "java/lang/StringBuilder", name := "append", desc := "(Ljava/lang/String;)Ljava/lang/StringBuilder;" } : Jvm.MethodName)) ∈ lw_all := lw_g (lw_at lw_m10 30 rfl) rfl
theorem q2307 : (Jvm.Cond.methodLink "ParityMaze$Room" (43 : Nat) ({ cls := "java/lang/StringBuilder", name := "toString", desc := "()Ljava/lang/String;" } : Jvm.MethodName)) ∈ lw_all := lw_g (lw_at lw_m10 60 rfl) rfl
theorem q2894 : (Jvm.Cond.castable "ParityMaze$Room" "java/lang/Object") ∈ lw_tbl := lw_at lw_m12 167 rfl
theorem in_X3 : ∀ w ∈ wsX30, w ∈ lw_all := lw_in wsX30 [417, 419] (by decide +kernel) (by decide +kernel)
/-! ParityMaze$Refused -/
set_option maxRecDepth 100000
def RX4 : String := "ParityMaze$Refused"
def TX4 : u_T := fun k => match k with
  | 0 => ("java/lang/Throwable", "cause", "Ljava/lang/Throwable;", false)
  | 1 => ("java/lang/Throwable", "stackTrace", "[Ljava/lang/StackTraceElement;", false)
  | 2 => ("java/lang/Throwable", "suppressedExceptions", "Ljava/util/List;", false)
  | 3 => ("java/lang/Throwable", "detailMessage", "Ljava/lang/String;", false)
  | 4 => ("java/lang/Throwable", "backtrace", "Ljava/lang/Object;", false)
  | 5 => ("java/lang/Throwable", "depth", "I", false)
  | 6 => ("ParityMaze$Refused", "reason", "I", true)
  | _ => ("ParityMaze$Refused", "detail", "I", true)
def tyX4 : Nat → FieldType := fun k => match k with
  | 0 => .object "java/lang/Throwable"
  | 1 => .array (.object "java/lang/StackTraceElement")
  | 2 => .object "java/util/List"
  | 3 => .object "java/lang/String"
  | 4 => .object "java/lang/Object"
  | 5 => .int
  | 6 => .int
  | _ => .int
abbrev wsX40 : List Cond := u_ws RX4 TX4 8
theorem nmX4 : ∀ a, a < 8 → ∀ b, b < 8 → a ≠ b → (TX4 a).2.1 ≠ (TX4 b).2.1 := by decide +kernel
theorem tyX4_ok : ∀ k, k < 8 → parseFieldDescriptor (TX4 k).2.2.1 = some (tyX4 k) := by decide +kernel
abbrev cX4_init : ByteArray := prog_6_method_1_code
def yX4_init : MethodName := ⟨RX4, "<init>", "(II)V"⟩
def dkwX4_init_0 : List UInt8 := [42, 1, 1, 3, 3, 183, 0, 1, 42, 27, 181, 0, 7, 42, 28, 181, 0, 13, 177]
abbrev dktX4_init_0 : List UInt8 := dkwX4_init_0 ++ []
theorem dksX4_init_0 : cX4_init.data.toList.drop 0 = dktX4_init_0 := by decide +kernel
theorem dX4_init_0 : decode cX4_init 0 = .ok (.aload_n 0, 1) := dk_42 (dk_at dksX4_init_0 0 rfl rfl)
theorem dX4_init_1 : decode cX4_init 1 = .ok (.aconst_null, 1) := dk_1 (dk_at dksX4_init_0 1 rfl rfl)
theorem dX4_init_2 : decode cX4_init 2 = .ok (.aconst_null, 1) := dk_1 (dk_at dksX4_init_0 2 rfl rfl)
theorem dX4_init_3 : decode cX4_init 3 = .ok (.iconst 0, 1) := dk_3 (dk_at dksX4_init_0 3 rfl rfl)
theorem dX4_init_4 : decode cX4_init 4 = .ok (.iconst 0, 1) := dk_3 (dk_at dksX4_init_0 4 rfl rfl)
theorem dX4_init_5 : decode cX4_init 5 = .ok (.invokespecial 1, 3) := dk_183 0 1 (dk_at dksX4_init_0 5 rfl rfl)
theorem dX4_init_8 : decode cX4_init 8 = .ok (.aload_n 0, 1) := dk_42 (dk_at dksX4_init_0 8 rfl rfl)
theorem dX4_init_9 : decode cX4_init 9 = .ok (.iload_n 1, 1) := dk_27 (dk_at dksX4_init_0 9 rfl rfl)
theorem dX4_init_10 : decode cX4_init 10 = .ok (.putfield 7, 3) := dk_181 0 7 (dk_at dksX4_init_0 10 rfl rfl)
theorem dX4_init_13 : decode cX4_init 13 = .ok (.aload_n 0, 1) := dk_42 (dk_at dksX4_init_0 13 rfl rfl)
theorem dX4_init_14 : decode cX4_init 14 = .ok (.iload_n 2, 1) := dk_28 (dk_at dksX4_init_0 14 rfl rfl)
theorem dX4_init_15 : decode cX4_init 15 = .ok (.putfield 13, 3) := dk_181 0 13 (dk_at dksX4_init_0 15 rfl rfl)
theorem dX4_init_18 : decode cX4_init 18 = .ok (.return_, 1) := dk_177 (dk_at dksX4_init_0 18 rfl rfl)
theorem q107 : (Jvm.Cond.initialized "ParityMaze$Refused") ∈ lw_all := lw_g (lw_at lw_m1 20 rfl) rfl
theorem q461 : (Jvm.Cond.selects "ParityMaze$Refused" ({ cls := "java/lang/Object", name := "getClass", desc := "()Ljava/lang/Class;" } : Jvm.MethodName) ({ cls := "java/lang/Object", name := "getClass", desc := "()Ljava/lang/Class;" } : Jvm.MethodName)) ∈ lw_all := lw_g (lw_at lw_m2 134 rfl) rfl
theorem q515 : (Jvm.Cond.instantiable "ParityMaze$Refused" (8 : Nat)) ∈ lw_all := lw_g (lw_at lw_m2 188 rfl) rfl
theorem q516 : (Jvm.Cond.castable "ParityMaze$Refused" "ParityMaze$Refused") ∈ lw_tbl := lw_at lw_m2 189 rfl
theorem q521 : (Jvm.Cond.selects "ParityMaze$Refused" ({ cls := "java/lang/Throwable", name := "fillInStackTrace", desc := "(I)Ljava/lang/Throwable;" } : Jvm.MethodName) ({ cls := "java/lang/Throwable", name := "fillInStackTrace", desc := "(I)Ljava/lang/Throwable;" } : Jvm.MethodName)) ∈ lw_all := lw_g (lw_at lw_m2 194 rfl) rfl
theorem q522 : (Jvm.Cond.selects "ParityMaze$Refused" ({ cls := "java/lang/Throwable", name := "fillInStackTrace", desc := "()Ljava/lang/Throwable;" } : Jvm.MethodName) ({ cls := "java/lang/Throwable", name := "fillInStackTrace", desc := "()Ljava/lang/Throwable;" } : Jvm.MethodName)) ∈ lw_all := lw_g (lw_at lw_m2 195 rfl) rfl
theorem q523 : (Jvm.Cond.lays "ParityMaze$Refused" "java/lang/Throwable" "cause" "Ljava/lang/Throwable;") ∈ lw_all := lw_g (lw_at lw_m2 196 rfl) rfl
theorem q525 : (Jvm.Cond.lays "ParityMaze$Refused" "java/lang/Throwable" "stackTrace" "[Ljava/lang/StackTraceElement;") ∈ lw_all := lw_g (lw_at lw_m2 198 rfl) rfl
theorem q527 : (Jvm.Cond.lays "ParityMaze$Refused" "java/lang/Throwable" "suppressedExceptions" "Ljava/util/List;") ∈ lw_all := lw_g (lw_at lw_m2 200 rfl) rfl
theorem q529 : (Jvm.Cond.lays "ParityMaze$Refused" "java/lang/Throwable" "detailMessage" "Ljava/lang/String;") ∈ lw_all := lw_g (lw_at lw_m2 202 rfl) rfl
theorem q531 : (Jvm.Cond.lays "ParityMaze$Refused" "java/lang/Throwable" "backtrace" "Ljava/lang/Object;") ∈ lw_all := lw_g (lw_at lw_m2 204 rfl) rfl
theorem q553 : (Jvm.Cond.instanceMethod ({ cls := "ParityMaze$Refused", name := "<init>", desc := "(II)V" } : Jvm.MethodName)) ∈ lw_all := lw_g (lw_at lw_m2 226 rfl) rfl
theorem q554 : (Jvm.Cond.code ({ cls := "ParityMaze$Refused", name := "<init>", desc := "(II)V" } : Jvm.MethodName) prog_6_method_1_code (3 : Nat) (Option.none : Option Jvm.ClassFile.FieldType)) ∈ lw_all := lw_g (lw_at lw_m2 227 rfl) rfl
theorem q555 : (Jvm.Cond.methodLink "ParityMaze$Refused" (1 : Nat) ({ cls := "java/lang/Exception", name := "<init>", desc := "(Ljava/lang/String;Ljava/lang/Throwable;ZZ)V" } : Jvm.MethodName)) ∈ lw_all := lw_g (lw_at lw_m2 228 rfl) rfl
theorem q561 : (Jvm.Cond.fieldLink "ParityMaze$Refused" (7 : Nat) "ParityMaze$Refused" "reason" "I") ∈ lw_all := lw_g (lw_at lw_m2 234 rfl) rfl
theorem q563 : (Jvm.Cond.fieldLink "ParityMaze$Refused" (13 : Nat) "ParityMaze$Refused" "detail" "I") ∈ lw_all := lw_g (lw_at lw_m2 236 rfl) rfl
theorem q570 : (Jvm.Cond.laysFinal "ParityMaze$Refused" "ParityMaze$Refused" "reason" "I") ∈ lw_all := lw_g (lw_at lw_m3 3 rfl) rfl
theorem q571 : (Jvm.Cond.soleField "ParityMaze$Refused" "reason") ∈ lw_all := lw_g (lw_at lw_m3 4 rfl) rfl
theorem q572 : (Jvm.Cond.laysFinal "ParityMaze$Refused" "ParityMaze$Refused" "detail" "I") ∈ lw_all := lw_g (lw_at lw_m3 5 rfl) rfl
theorem q573 : (Jvm.Cond.soleField "ParityMaze$Refused" "detail") ∈ lw_all := lw_g (lw_at lw_m3 6 rfl) rfl
theorem q578 : (Jvm.Cond.lays "ParityMaze$Refused" "java/lang/Throwable" "depth" "I") ∈ lw_all := lw_g (lw_at lw_m3 11 rfl) rfl
theorem q581 : (Jvm.Cond.superclass "ParityMaze$Refused" "java/lang/Exception") ∈ lw_all := lw_g (lw_at lw_m3 14 rfl) rfl
theorem q989 : (Jvm.Cond.selects "ParityMaze$Refused" ({ cls := "java/lang/Object", name := "hashCode", desc := "()I" } : Jvm.MethodName) ({ cls := "java/lang/Object", name := "hashCode", desc := "()I" } : Jvm.MethodName)) ∈ lw_all := lw_g (lw_at lw_m4 182 rfl) rfl
theorem q1412 : (Jvm.Cond.selects "ParityMaze$Refused" ({ cls := "java/lang/Object", name := "equals", desc := "(Ljava/lang/Object;)Z" } : Jvm.MethodName) ({ cls := "java/lang/Object", name := "equals", desc := "(Ljava/lang/Object;)Z" } : Jvm.MethodName)) ∈ lw_all := lw_g (lw_at lw_m6 125 rfl) rfl
theorem q2895 : (Jvm.Cond.castable "ParityMaze$Refused" "java/lang/Object") ∈ lw_tbl := lw_at lw_m12 168 rfl
theorem in_X4 : ∀ w ∈ wsX40, w ∈ lw_all := lw_in wsX40 [523, 525, 527, 529, 531, 578, 570, 572] (by decide +kernel) (by decide +kernel)
/-! ParityMaze$Door -/
set_option maxRecDepth 100000
def RX5 : String := "ParityMaze$Door"
def TX5 : u_T := fun k => match k with
  | 0 => ("ParityMaze$Door", "lower", "I", true)
  | 1 => ("ParityMaze$Door", "upper", "I", true)
  | 2 => ("ParityMaze$Door", "kind", "I", true)
  | 3 => ("ParityMaze$Door", "colour", "I", true)
  | 4 => ("ParityMaze$Door", "isShut", "Z", true)
  | _ => ("ParityMaze$Door", "gone", "I", true)
def tyX5 : Nat → FieldType := fun k => match k with
  | 0 => .int
  | 1 => .int
  | 2 => .int
  | 3 => .int
  | 4 => .boolean
  | _ => .int
abbrev wsX50 : List Cond := u_ws RX5 TX5 6
theorem nmX5 : ∀ a, a < 6 → ∀ b, b < 6 → a ≠ b → (TX5 a).2.1 ≠ (TX5 b).2.1 := by decide +kernel
theorem tyX5_ok : ∀ k, k < 6 → parseFieldDescriptor (TX5 k).2.2.1 = some (tyX5 k) := by decide +kernel
abbrev cX5_isBetween : ByteArray := prog_3_method_6_code
def yX5_isBetween : MethodName := ⟨RX5, "isBetween", "(II)Z"⟩
def dkwX5_isBetween_0 : List UInt8 := [42, 27, 182, 0, 43, 153, 0, 15, 42, 28, 182, 0, 43, 153, 0, 7, 4, 167, 0, 4, 3, 172]
abbrev dktX5_isBetween_0 : List UInt8 := dkwX5_isBetween_0 ++ []
theorem dksX5_isBetween_0 : cX5_isBetween.data.toList.drop 0 = dktX5_isBetween_0 := by decide +kernel
theorem dX5_isBetween_0 : decode cX5_isBetween 0 = .ok (.aload_n 0, 1) := dk_42 (dk_at dksX5_isBetween_0 0 rfl rfl)
theorem dX5_isBetween_1 : decode cX5_isBetween 1 = .ok (.iload_n 1, 1) := dk_27 (dk_at dksX5_isBetween_0 1 rfl rfl)
theorem dX5_isBetween_2 : decode cX5_isBetween 2 = .ok (.invokevirtual 43, 3) := dk_182 0 43 (dk_at dksX5_isBetween_0 2 rfl rfl)
theorem dX5_isBetween_5 : decode cX5_isBetween 5 = .ok (.ifCond .eq 15, 3) := dk_153 0 15 (dk_at dksX5_isBetween_0 5 rfl rfl)
theorem dX5_isBetween_8 : decode cX5_isBetween 8 = .ok (.aload_n 0, 1) := dk_42 (dk_at dksX5_isBetween_0 8 rfl rfl)
theorem dX5_isBetween_9 : decode cX5_isBetween 9 = .ok (.iload_n 2, 1) := dk_28 (dk_at dksX5_isBetween_0 9 rfl rfl)
theorem dX5_isBetween_10 : decode cX5_isBetween 10 = .ok (.invokevirtual 43, 3) := dk_182 0 43 (dk_at dksX5_isBetween_0 10 rfl rfl)
theorem dX5_isBetween_13 : decode cX5_isBetween 13 = .ok (.ifCond .eq 7, 3) := dk_153 0 7 (dk_at dksX5_isBetween_0 13 rfl rfl)
theorem dX5_isBetween_16 : decode cX5_isBetween 16 = .ok (.iconst 1, 1) := dk_4 (dk_at dksX5_isBetween_0 16 rfl rfl)
theorem dX5_isBetween_17 : decode cX5_isBetween 17 = .ok (.goto 4, 3) := dk_167 0 4 (dk_at dksX5_isBetween_0 17 rfl rfl)
theorem dX5_isBetween_20 : decode cX5_isBetween 20 = .ok (.iconst 0, 1) := dk_3 (dk_at dksX5_isBetween_0 20 rfl rfl)
theorem dX5_isBetween_21 : decode cX5_isBetween 21 = .ok (.ireturn, 1) := dk_172 (dk_at dksX5_isBetween_0 21 rfl rfl)
abbrev cX5_isAt : ByteArray := prog_3_method_5_code
def yX5_isAt : MethodName := ⟨RX5, "isAt", "(I)Z"⟩
def dkwX5_isAt_0 : List UInt8 := [42, 180, 0, 23, 27, 159, 0, 11, 42, 180, 0, 27, 27, 160, 0, 7, 4, 167, 0, 4, 3, 172]
abbrev dktX5_isAt_0 : List UInt8 := dkwX5_isAt_0 ++ []
theorem dksX5_isAt_0 : cX5_isAt.data.toList.drop 0 = dktX5_isAt_0 := by decide +kernel
theorem dX5_isAt_0 : decode cX5_isAt 0 = .ok (.aload_n 0, 1) := dk_42 (dk_at dksX5_isAt_0 0 rfl rfl)
theorem dX5_isAt_1 : decode cX5_isAt 1 = .ok (.getfield 23, 3) := dk_180 0 23 (dk_at dksX5_isAt_0 1 rfl rfl)
theorem dX5_isAt_4 : decode cX5_isAt 4 = .ok (.iload_n 1, 1) := dk_27 (dk_at dksX5_isAt_0 4 rfl rfl)
theorem dX5_isAt_5 : decode cX5_isAt 5 = .ok (.if_icmp .eq 11, 3) := dk_159 0 11 (dk_at dksX5_isAt_0 5 rfl rfl)
theorem dX5_isAt_8 : decode cX5_isAt 8 = .ok (.aload_n 0, 1) := dk_42 (dk_at dksX5_isAt_0 8 rfl rfl)
theorem dX5_isAt_9 : decode cX5_isAt 9 = .ok (.getfield 27, 3) := dk_180 0 27 (dk_at dksX5_isAt_0 9 rfl rfl)
theorem dX5_isAt_12 : decode cX5_isAt 12 = .ok (.iload_n 1, 1) := dk_27 (dk_at dksX5_isAt_0 12 rfl rfl)
theorem dX5_isAt_13 : decode cX5_isAt 13 = .ok (.if_icmp .ne 7, 3) := dk_160 0 7 (dk_at dksX5_isAt_0 13 rfl rfl)
theorem dX5_isAt_16 : decode cX5_isAt 16 = .ok (.iconst 1, 1) := dk_4 (dk_at dksX5_isAt_0 16 rfl rfl)
theorem dX5_isAt_17 : decode cX5_isAt 17 = .ok (.goto 4, 3) := dk_167 0 4 (dk_at dksX5_isAt_0 17 rfl rfl)
theorem dX5_isAt_20 : decode cX5_isAt 20 = .ok (.iconst 0, 1) := dk_3 (dk_at dksX5_isAt_0 20 rfl rfl)
theorem dX5_isAt_21 : decode cX5_isAt 21 = .ok (.ireturn, 1) := dk_172 (dk_at dksX5_isAt_0 21 rfl rfl)
abbrev cX5_init : ByteArray := prog_3_method_1_code
def yX5_init : MethodName := ⟨RX5, "<init>", "(IIII)V"⟩
def dkwX5_init_1 : List UInt8 := [3, 3, 183, 0, 12, 177]
abbrev dktX5_init_1 : List UInt8 := dkwX5_init_1 ++ []
def dkwX5_init_0 : List UInt8 := [42, 27, 28, 184, 0, 3, 27, 28, 184, 0, 9, 29, 21, 4, 21, 4, 2, 159, 0, 7, 4, 167, 0, 4]
abbrev dktX5_init_0 : List UInt8 := dkwX5_init_0 ++ dktX5_init_1
theorem dksX5_init_0 : cX5_init.data.toList.drop 0 = dktX5_init_0 := by decide +kernel
theorem dksX5_init_1 : cX5_init.data.toList.drop 24 = dktX5_init_1 := dk_seg dksX5_init_0 24 rfl rfl
theorem dX5_init_0 : decode cX5_init 0 = .ok (.aload_n 0, 1) := dk_42 (dk_at dksX5_init_0 0 rfl rfl)
theorem dX5_init_1 : decode cX5_init 1 = .ok (.iload_n 1, 1) := dk_27 (dk_at dksX5_init_0 1 rfl rfl)
theorem dX5_init_2 : decode cX5_init 2 = .ok (.iload_n 2, 1) := dk_28 (dk_at dksX5_init_0 2 rfl rfl)
theorem dX5_init_3 : decode cX5_init 3 = .ok (.invokestatic 3, 3) := dk_184 0 3 (dk_at dksX5_init_0 3 rfl rfl)
theorem dX5_init_6 : decode cX5_init 6 = .ok (.iload_n 1, 1) := dk_27 (dk_at dksX5_init_0 6 rfl rfl)
theorem dX5_init_7 : decode cX5_init 7 = .ok (.iload_n 2, 1) := dk_28 (dk_at dksX5_init_0 7 rfl rfl)
theorem dX5_init_8 : decode cX5_init 8 = .ok (.invokestatic 9, 3) := dk_184 0 9 (dk_at dksX5_init_0 8 rfl rfl)
theorem dX5_init_11 : decode cX5_init 11 = .ok (.iload_n 3, 1) := dk_29 (dk_at dksX5_init_0 11 rfl rfl)
theorem dX5_init_12 : decode cX5_init 12 = .ok (.iload 4, 2) := dk_21 4 (dk_at dksX5_init_0 12 rfl rfl)
theorem dX5_init_14 : decode cX5_init 14 = .ok (.iload 4, 2) := dk_21 4 (dk_at dksX5_init_0 14 rfl rfl)
theorem dX5_init_16 : decode cX5_init 16 = .ok (.iconst (-1), 1) := dk_2 (dk_at dksX5_init_0 16 rfl rfl)
theorem dX5_init_17 : decode cX5_init 17 = .ok (.if_icmp .eq 7, 3) := dk_159 0 7 (dk_at dksX5_init_0 17 rfl rfl)
theorem dX5_init_20 : decode cX5_init 20 = .ok (.iconst 1, 1) := dk_4 (dk_at dksX5_init_0 20 rfl rfl)
theorem dX5_init_21 : decode cX5_init 21 = .ok (.goto 4, 3) := dk_167 0 4 (dk_at dksX5_init_0 21 rfl rfl)
theorem dX5_init_24 : decode cX5_init 24 = .ok (.iconst 0, 1) := dk_3 (dk_at dksX5_init_1 0 rfl rfl)
theorem dX5_init_25 : decode cX5_init 25 = .ok (.iconst 0, 1) := dk_3 (dk_at dksX5_init_1 1 rfl rfl)
theorem dX5_init_26 : decode cX5_init 26 = .ok (.invokespecial 12, 3) := dk_183 0 12 (dk_at dksX5_init_1 2 rfl rfl)
theorem dX5_init_29 : decode cX5_init 29 = .ok (.return_, 1) := dk_177 (dk_at dksX5_init_1 5 rfl rfl)
abbrev cX5_init_2 : ByteArray := prog_3_method_2_code
def yX5_init_2 : MethodName := ⟨RX5, "<init>", "(IIIIZI)V"⟩
def dkwX5_init_2_1 : List UInt8 := [181, 0, 33, 42, 21, 5, 181, 0, 36, 42, 21, 6, 181, 0, 40, 177]
abbrev dktX5_init_2_1 : List UInt8 := dkwX5_init_2_1 ++ []
def dkwX5_init_2_0 : List UInt8 := [42, 183, 0, 18, 42, 27, 181, 0, 23, 42, 28, 181, 0, 27, 42, 29, 181, 0, 30, 42, 21, 4]
abbrev dktX5_init_2_0 : List UInt8 := dkwX5_init_2_0 ++ dktX5_init_2_1
theorem dksX5_init_2_0 : cX5_init_2.data.toList.drop 0 = dktX5_init_2_0 := by decide +kernel
theorem dksX5_init_2_1 : cX5_init_2.data.toList.drop 22 = dktX5_init_2_1 := dk_seg dksX5_init_2_0 22 rfl rfl
theorem dX5_init_2_0 : decode cX5_init_2 0 = .ok (.aload_n 0, 1) := dk_42 (dk_at dksX5_init_2_0 0 rfl rfl)
theorem dX5_init_2_1 : decode cX5_init_2 1 = .ok (.invokespecial 18, 3) := dk_183 0 18 (dk_at dksX5_init_2_0 1 rfl rfl)
theorem dX5_init_2_4 : decode cX5_init_2 4 = .ok (.aload_n 0, 1) := dk_42 (dk_at dksX5_init_2_0 4 rfl rfl)
theorem dX5_init_2_5 : decode cX5_init_2 5 = .ok (.iload_n 1, 1) := dk_27 (dk_at dksX5_init_2_0 5 rfl rfl)
theorem dX5_init_2_6 : decode cX5_init_2 6 = .ok (.putfield 23, 3) := dk_181 0 23 (dk_at dksX5_init_2_0 6 rfl rfl)
theorem dX5_init_2_9 : decode cX5_init_2 9 = .ok (.aload_n 0, 1) := dk_42 (dk_at dksX5_init_2_0 9 rfl rfl)
theorem dX5_init_2_10 : decode cX5_init_2 10 = .ok (.iload_n 2, 1) := dk_28 (dk_at dksX5_init_2_0 10 rfl rfl)
theorem dX5_init_2_11 : decode cX5_init_2 11 = .ok (.putfield 27, 3) := dk_181 0 27 (dk_at dksX5_init_2_0 11 rfl rfl)
theorem dX5_init_2_14 : decode cX5_init_2 14 = .ok (.aload_n 0, 1) := dk_42 (dk_at dksX5_init_2_0 14 rfl rfl)
theorem dX5_init_2_15 : decode cX5_init_2 15 = .ok (.iload_n 3, 1) := dk_29 (dk_at dksX5_init_2_0 15 rfl rfl)
theorem dX5_init_2_16 : decode cX5_init_2 16 = .ok (.putfield 30, 3) := dk_181 0 30 (dk_at dksX5_init_2_0 16 rfl rfl)
theorem dX5_init_2_19 : decode cX5_init_2 19 = .ok (.aload_n 0, 1) := dk_42 (dk_at dksX5_init_2_0 19 rfl rfl)
theorem dX5_init_2_20 : decode cX5_init_2 20 = .ok (.iload 4, 2) := dk_21 4 (dk_at dksX5_init_2_0 20 rfl rfl)
theorem dX5_init_2_22 : decode cX5_init_2 22 = .ok (.putfield 33, 3) := dk_181 0 33 (dk_at dksX5_init_2_1 0 rfl rfl)
theorem dX5_init_2_25 : decode cX5_init_2 25 = .ok (.aload_n 0, 1) := dk_42 (dk_at dksX5_init_2_1 3 rfl rfl)
theorem dX5_init_2_26 : decode cX5_init_2 26 = .ok (.iload 5, 2) := dk_21 5 (dk_at dksX5_init_2_1 4 rfl rfl)
theorem dX5_init_2_28 : decode cX5_init_2 28 = .ok (.putfield 36, 3) := dk_181 0 36 (dk_at dksX5_init_2_1 6 rfl rfl)
theorem dX5_init_2_31 : decode cX5_init_2 31 = .ok (.aload_n 0, 1) := dk_42 (dk_at dksX5_init_2_1 9 rfl rfl)
theorem dX5_init_2_32 : decode cX5_init_2 32 = .ok (.iload 6, 2) := dk_21 6 (dk_at dksX5_init_2_1 10 rfl rfl)
theorem dX5_init_2_34 : decode cX5_init_2 34 = .ok (.putfield 40, 3) := dk_181 0 40 (dk_at dksX5_init_2_1 12 rfl rfl)
theorem dX5_init_2_37 : decode cX5_init_2 37 = .ok (.return_, 1) := dk_177 (dk_at dksX5_init_2_1 15 rfl rfl)
abbrev cX5_isFor : ByteArray := prog_3_method_8_code
def yX5_isFor : MethodName := ⟨RX5, "isFor", "(I)Z"⟩
def dkwX5_isFor_1 : List UInt8 := [160, 0, 7, 4, 167, 0, 4, 3, 160, 0, 7, 4, 167, 0, 4, 3, 172]
abbrev dktX5_isFor_1 : List UInt8 := dkwX5_isFor_1 ++ []
def dkwX5_isFor_0 : List UInt8 := [42, 180, 0, 30, 153, 0, 31, 42, 180, 0, 30, 4, 160, 0, 7, 4, 167, 0, 4, 3, 27, 5, 112, 4]
abbrev dktX5_isFor_0 : List UInt8 := dkwX5_isFor_0 ++ dktX5_isFor_1
theorem dksX5_isFor_0 : cX5_isFor.data.toList.drop 0 = dktX5_isFor_0 := by decide +kernel
theorem dksX5_isFor_1 : cX5_isFor.data.toList.drop 24 = dktX5_isFor_1 := dk_seg dksX5_isFor_0 24 rfl rfl
theorem dX5_isFor_0 : decode cX5_isFor 0 = .ok (.aload_n 0, 1) := dk_42 (dk_at dksX5_isFor_0 0 rfl rfl)
theorem dX5_isFor_1 : decode cX5_isFor 1 = .ok (.getfield 30, 3) := dk_180 0 30 (dk_at dksX5_isFor_0 1 rfl rfl)
theorem dX5_isFor_4 : decode cX5_isFor 4 = .ok (.ifCond .eq 31, 3) := dk_153 0 31 (dk_at dksX5_isFor_0 4 rfl rfl)
theorem dX5_isFor_7 : decode cX5_isFor 7 = .ok (.aload_n 0, 1) := dk_42 (dk_at dksX5_isFor_0 7 rfl rfl)
theorem dX5_isFor_8 : decode cX5_isFor 8 = .ok (.getfield 30, 3) := dk_180 0 30 (dk_at dksX5_isFor_0 8 rfl rfl)
theorem dX5_isFor_11 : decode cX5_isFor 11 = .ok (.iconst 1, 1) := dk_4 (dk_at dksX5_isFor_0 11 rfl rfl)
theorem dX5_isFor_12 : decode cX5_isFor 12 = .ok (.if_icmp .ne 7, 3) := dk_160 0 7 (dk_at dksX5_isFor_0 12 rfl rfl)
theorem dX5_isFor_15 : decode cX5_isFor 15 = .ok (.iconst 1, 1) := dk_4 (dk_at dksX5_isFor_0 15 rfl rfl)
theorem dX5_isFor_16 : decode cX5_isFor 16 = .ok (.goto 4, 3) := dk_167 0 4 (dk_at dksX5_isFor_0 16 rfl rfl)
theorem dX5_isFor_19 : decode cX5_isFor 19 = .ok (.iconst 0, 1) := dk_3 (dk_at dksX5_isFor_0 19 rfl rfl)
theorem dX5_isFor_20 : decode cX5_isFor 20 = .ok (.iload_n 1, 1) := dk_27 (dk_at dksX5_isFor_0 20 rfl rfl)
theorem dX5_isFor_21 : decode cX5_isFor 21 = .ok (.iconst 2, 1) := dk_5 (dk_at dksX5_isFor_0 21 rfl rfl)
theorem dX5_isFor_22 : decode cX5_isFor 22 = .ok (.irem, 1) := dk_112 (dk_at dksX5_isFor_0 22 rfl rfl)
theorem dX5_isFor_23 : decode cX5_isFor 23 = .ok (.iconst 1, 1) := dk_4 (dk_at dksX5_isFor_0 23 rfl rfl)
theorem dX5_isFor_24 : decode cX5_isFor 24 = .ok (.if_icmp .ne 7, 3) := dk_160 0 7 (dk_at dksX5_isFor_1 0 rfl rfl)
theorem dX5_isFor_27 : decode cX5_isFor 27 = .ok (.iconst 1, 1) := dk_4 (dk_at dksX5_isFor_1 3 rfl rfl)
theorem dX5_isFor_28 : decode cX5_isFor 28 = .ok (.goto 4, 3) := dk_167 0 4 (dk_at dksX5_isFor_1 4 rfl rfl)
theorem dX5_isFor_31 : decode cX5_isFor 31 = .ok (.iconst 0, 1) := dk_3 (dk_at dksX5_isFor_1 7 rfl rfl)
theorem dX5_isFor_32 : decode cX5_isFor 32 = .ok (.if_icmp .ne 7, 3) := dk_160 0 7 (dk_at dksX5_isFor_1 8 rfl rfl)
theorem dX5_isFor_35 : decode cX5_isFor 35 = .ok (.iconst 1, 1) := dk_4 (dk_at dksX5_isFor_1 11 rfl rfl)
theorem dX5_isFor_36 : decode cX5_isFor 36 = .ok (.goto 4, 3) := dk_167 0 4 (dk_at dksX5_isFor_1 12 rfl rfl)
theorem dX5_isFor_39 : decode cX5_isFor 39 = .ok (.iconst 0, 1) := dk_3 (dk_at dksX5_isFor_1 15 rfl rfl)
theorem dX5_isFor_40 : decode cX5_isFor 40 = .ok (.ireturn, 1) := dk_172 (dk_at dksX5_isFor_1 16 rfl rfl)
abbrev cX5_beyond : ByteArray := prog_3_method_7_code
def yX5_beyond : MethodName := ⟨RX5, "beyond", "(I)I"⟩
def dkwX5_beyond_0 : List UInt8 := [27, 42, 180, 0, 23, 160, 0, 10, 42, 180, 0, 27, 167, 0, 7, 42, 180, 0, 23, 172]
abbrev dktX5_beyond_0 : List UInt8 := dkwX5_beyond_0 ++ []
theorem dksX5_beyond_0 : cX5_beyond.data.toList.drop 0 = dktX5_beyond_0 := by decide +kernel
theorem dX5_beyond_0 : decode cX5_beyond 0 = .ok (.iload_n 1, 1) := dk_27 (dk_at dksX5_beyond_0 0 rfl rfl)
theorem dX5_beyond_1 : decode cX5_beyond 1 = .ok (.aload_n 0, 1) := dk_42 (dk_at dksX5_beyond_0 1 rfl rfl)
theorem dX5_beyond_2 : decode cX5_beyond 2 = .ok (.getfield 23, 3) := dk_180 0 23 (dk_at dksX5_beyond_0 2 rfl rfl)
theorem dX5_beyond_5 : decode cX5_beyond 5 = .ok (.if_icmp .ne 10, 3) := dk_160 0 10 (dk_at dksX5_beyond_0 5 rfl rfl)
theorem dX5_beyond_8 : decode cX5_beyond 8 = .ok (.aload_n 0, 1) := dk_42 (dk_at dksX5_beyond_0 8 rfl rfl)
theorem dX5_beyond_9 : decode cX5_beyond 9 = .ok (.getfield 27, 3) := dk_180 0 27 (dk_at dksX5_beyond_0 9 rfl rfl)
theorem dX5_beyond_12 : decode cX5_beyond 12 = .ok (.goto 7, 3) := dk_167 0 7 (dk_at dksX5_beyond_0 12 rfl rfl)
theorem dX5_beyond_15 : decode cX5_beyond 15 = .ok (.aload_n 0, 1) := dk_42 (dk_at dksX5_beyond_0 15 rfl rfl)
theorem dX5_beyond_16 : decode cX5_beyond 16 = .ok (.getfield 23, 3) := dk_180 0 23 (dk_at dksX5_beyond_0 16 rfl rfl)
theorem dX5_beyond_19 : decode cX5_beyond 19 = .ok (.ireturn, 1) := dk_172 (dk_at dksX5_beyond_0 19 rfl rfl)
abbrev cX5_of : ByteArray := prog_3_method_9_code
def yX5_of : MethodName := ⟨RX5, "of", "(I)I"⟩
def dkwX5_of_4 : List UInt8 := [180, 0, 40, 167, 0, 6, 17, 252, 12, 172]
abbrev dktX5_of_4 : List UInt8 := dkwX5_of_4 ++ []
def dkwX5_of_3 : List UInt8 := [180, 0, 33, 167, 0, 28, 42, 180, 0, 36, 153, 0, 7, 4, 167, 0, 17, 3, 167, 0, 13, 42]
abbrev dktX5_of_3 : List UInt8 := dkwX5_of_3 ++ dktX5_of_4
def dkwX5_of_2 : List UInt8 := [42, 180, 0, 23, 167, 0, 49, 42, 180, 0, 27, 167, 0, 42, 42, 180, 0, 30, 167, 0, 35, 42]
abbrev dktX5_of_2 : List UInt8 := dkwX5_of_2 ++ dktX5_of_3
def dkwX5_of_1 : List UInt8 := [170, 0, 0, 0, 0, 0, 89, 0, 0, 0, 0, 0, 0, 0, 5, 0, 0, 0, 39, 0, 0, 0, 46, 0, 0, 0, 53, 0, 0, 0, 60, 0, 0, 0, 67, 0, 0, 0, 82]
abbrev dktX5_of_1 : List UInt8 := dkwX5_of_1 ++ dktX5_of_2
def dkwX5_of_0 : List UInt8 := [27]
abbrev dktX5_of_0 : List UInt8 := dkwX5_of_0 ++ dktX5_of_1
theorem dksX5_of_0 : cX5_of.data.toList.drop 0 = dktX5_of_0 := by decide +kernel
theorem dksX5_of_1 : cX5_of.data.toList.drop 1 = dktX5_of_1 := dk_seg dksX5_of_0 1 rfl rfl
theorem dksX5_of_2 : cX5_of.data.toList.drop 40 = dktX5_of_2 := dk_seg dksX5_of_1 39 rfl rfl
theorem dksX5_of_3 : cX5_of.data.toList.drop 62 = dktX5_of_3 := dk_seg dksX5_of_2 22 rfl rfl
theorem dksX5_of_4 : cX5_of.data.toList.drop 84 = dktX5_of_4 := dk_seg dksX5_of_3 22 rfl rfl
theorem dX5_of_0 : decode cX5_of 0 = .ok (.iload_n 1, 1) := dk_27 (dk_at dksX5_of_0 0 rfl rfl)
theorem dX5_of_1 : decode cX5_of 1 = .ok (.tableswitch 89 0 5 #[39, 46, 53, 60, 67, 82], 39) := by decide +kernel
theorem dX5_of_40 : decode cX5_of 40 = .ok (.aload_n 0, 1) := dk_42 (dk_at dksX5_of_2 0 rfl rfl)
theorem dX5_of_41 : decode cX5_of 41 = .ok (.getfield 23, 3) := dk_180 0 23 (dk_at dksX5_of_2 1 rfl rfl)
theorem dX5_of_44 : decode cX5_of 44 = .ok (.goto 49, 3) := dk_167 0 49 (dk_at dksX5_of_2 4 rfl rfl)
theorem dX5_of_47 : decode cX5_of 47 = .ok (.aload_n 0, 1) := dk_42 (dk_at dksX5_of_2 7 rfl rfl)
theorem dX5_of_48 : decode cX5_of 48 = .ok (.getfield 27, 3) := dk_180 0 27 (dk_at dksX5_of_2 8 rfl rfl)
theorem dX5_of_51 : decode cX5_of 51 = .ok (.goto 42, 3) := dk_167 0 42 (dk_at dksX5_of_2 11 rfl rfl)
theorem dX5_of_54 : decode cX5_of 54 = .ok (.aload_n 0, 1) := dk_42 (dk_at dksX5_of_2 14 rfl rfl)
theorem dX5_of_55 : decode cX5_of 55 = .ok (.getfield 30, 3) := dk_180 0 30 (dk_at dksX5_of_2 15 rfl rfl)
theorem dX5_of_58 : decode cX5_of 58 = .ok (.goto 35, 3) := dk_167 0 35 (dk_at dksX5_of_2 18 rfl rfl)
theorem dX5_of_61 : decode cX5_of 61 = .ok (.aload_n 0, 1) := dk_42 (dk_at dksX5_of_2 21 rfl rfl)
theorem dX5_of_62 : decode cX5_of 62 = .ok (.getfield 33, 3) := dk_180 0 33 (dk_at dksX5_of_3 0 rfl rfl)
theorem dX5_of_65 : decode cX5_of 65 = .ok (.goto 28, 3) := dk_167 0 28 (dk_at dksX5_of_3 3 rfl rfl)
theorem dX5_of_68 : decode cX5_of 68 = .ok (.aload_n 0, 1) := dk_42 (dk_at dksX5_of_3 6 rfl rfl)
theorem dX5_of_69 : decode cX5_of 69 = .ok (.getfield 36, 3) := dk_180 0 36 (dk_at dksX5_of_3 7 rfl rfl)
theorem dX5_of_72 : decode cX5_of 72 = .ok (.ifCond .eq 7, 3) := dk_153 0 7 (dk_at dksX5_of_3 10 rfl rfl)
theorem dX5_of_75 : decode cX5_of 75 = .ok (.iconst 1, 1) := dk_4 (dk_at dksX5_of_3 13 rfl rfl)
theorem dX5_of_76 : decode cX5_of 76 = .ok (.goto 17, 3) := dk_167 0 17 (dk_at dksX5_of_3 14 rfl rfl)
theorem dX5_of_79 : decode cX5_of 79 = .ok (.iconst 0, 1) := dk_3 (dk_at dksX5_of_3 17 rfl rfl)
theorem dX5_of_80 : decode cX5_of 80 = .ok (.goto 13, 3) := dk_167 0 13 (dk_at dksX5_of_3 18 rfl rfl)
theorem dX5_of_83 : decode cX5_of 83 = .ok (.aload_n 0, 1) := dk_42 (dk_at dksX5_of_3 21 rfl rfl)
theorem dX5_of_84 : decode cX5_of 84 = .ok (.getfield 40, 3) := dk_180 0 40 (dk_at dksX5_of_4 0 rfl rfl)
theorem dX5_of_87 : decode cX5_of 87 = .ok (.goto 6, 3) := dk_167 0 6 (dk_at dksX5_of_4 3 rfl rfl)
theorem dX5_of_90 : decode cX5_of 90 = .ok (.sipush (-1012), 3) := dk_17 252 12 (dk_at dksX5_of_4 6 rfl rfl)
theorem dX5_of_93 : decode cX5_of 93 = .ok (.ireturn, 1) := dk_172 (dk_at dksX5_of_4 9 rfl rfl)
abbrev cX5_goneThrough : ByteArray := prog_3_method_4_code
def yX5_goneThrough : MethodName := ⟨RX5, "goneThrough", "()LParityMaze$Door;"⟩
def dkwX5_goneThrough_1 : List UInt8 := [42, 180, 0, 40, 4, 96, 183, 0, 12, 176]
abbrev dktX5_goneThrough_1 : List UInt8 := dkwX5_goneThrough_1 ++ []
def dkwX5_goneThrough_0 : List UInt8 := [187, 0, 13, 89, 42, 180, 0, 23, 42, 180, 0, 27, 42, 180, 0, 30, 42, 180, 0, 33, 42, 180, 0, 36]
abbrev dktX5_goneThrough_0 : List UInt8 := dkwX5_goneThrough_0 ++ dktX5_goneThrough_1
theorem dksX5_goneThrough_0 : cX5_goneThrough.data.toList.drop 0 = dktX5_goneThrough_0 := by decide +kernel
theorem dksX5_goneThrough_1 : cX5_goneThrough.data.toList.drop 24 = dktX5_goneThrough_1 := dk_seg dksX5_goneThrough_0 24 rfl rfl
theorem dX5_goneThrough_0 : decode cX5_goneThrough 0 = .ok (.new 13, 3) := dk_187 0 13 (dk_at dksX5_goneThrough_0 0 rfl rfl)
theorem dX5_goneThrough_3 : decode cX5_goneThrough 3 = .ok (.dup, 1) := dk_89 (dk_at dksX5_goneThrough_0 3 rfl rfl)
theorem dX5_goneThrough_4 : decode cX5_goneThrough 4 = .ok (.aload_n 0, 1) := dk_42 (dk_at dksX5_goneThrough_0 4 rfl rfl)
theorem dX5_goneThrough_5 : decode cX5_goneThrough 5 = .ok (.getfield 23, 3) := dk_180 0 23 (dk_at dksX5_goneThrough_0 5 rfl rfl)
theorem dX5_goneThrough_8 : decode cX5_goneThrough 8 = .ok (.aload_n 0, 1) := dk_42 (dk_at dksX5_goneThrough_0 8 rfl rfl)
theorem dX5_goneThrough_9 : decode cX5_goneThrough 9 = .ok (.getfield 27, 3) := dk_180 0 27 (dk_at dksX5_goneThrough_0 9 rfl rfl)
theorem dX5_goneThrough_12 : decode cX5_goneThrough 12 = .ok (.aload_n 0, 1) := dk_42 (dk_at dksX5_goneThrough_0 12 rfl rfl)
theorem dX5_goneThrough_13 : decode cX5_goneThrough 13 = .ok (.getfield 30, 3) := dk_180 0 30 (dk_at dksX5_goneThrough_0 13 rfl rfl)
theorem dX5_goneThrough_16 : decode cX5_goneThrough 16 = .ok (.aload_n 0, 1) := dk_42 (dk_at dksX5_goneThrough_0 16 rfl rfl)
theorem dX5_goneThrough_17 : decode cX5_goneThrough 17 = .ok (.getfield 33, 3) := dk_180 0 33 (dk_at dksX5_goneThrough_0 17 rfl rfl)
theorem dX5_goneThrough_20 : decode cX5_goneThrough 20 = .ok (.aload_n 0, 1) := dk_42 (dk_at dksX5_goneThrough_0 20 rfl rfl)
theorem dX5_goneThrough_21 : decode cX5_goneThrough 21 = .ok (.getfield 36, 3) := dk_180 0 36 (dk_at dksX5_goneThrough_0 21 rfl rfl)
theorem dX5_goneThrough_24 : decode cX5_goneThrough 24 = .ok (.aload_n 0, 1) := dk_42 (dk_at dksX5_goneThrough_1 0 rfl rfl)
theorem dX5_goneThrough_25 : decode cX5_goneThrough 25 = .ok (.getfield 40, 3) := dk_180 0 40 (dk_at dksX5_goneThrough_1 1 rfl rfl)
theorem dX5_goneThrough_28 : decode cX5_goneThrough 28 = .ok (.iconst 1, 1) := dk_4 (dk_at dksX5_goneThrough_1 4 rfl rfl)
theorem dX5_goneThrough_29 : decode cX5_goneThrough 29 = .ok (.iadd, 1) := dk_96 (dk_at dksX5_goneThrough_1 5 rfl rfl)
theorem dX5_goneThrough_30 : decode cX5_goneThrough 30 = .ok (.invokespecial 12, 3) := dk_183 0 12 (dk_at dksX5_goneThrough_1 6 rfl rfl)
theorem dX5_goneThrough_33 : decode cX5_goneThrough 33 = .ok (.areturn, 1) := dk_176 (dk_at dksX5_goneThrough_1 9 rfl rfl)
abbrev cX5_opened : ByteArray := prog_3_method_3_code
def yX5_opened : MethodName := ⟨RX5, "opened", "()LParityMaze$Door;"⟩
def dkwX5_opened_1 : List UInt8 := [180, 0, 40, 183, 0, 12, 176]
abbrev dktX5_opened_1 : List UInt8 := dkwX5_opened_1 ++ []
def dkwX5_opened_0 : List UInt8 := [187, 0, 13, 89, 42, 180, 0, 23, 42, 180, 0, 27, 42, 180, 0, 30, 42, 180, 0, 33, 3, 42]
abbrev dktX5_opened_0 : List UInt8 := dkwX5_opened_0 ++ dktX5_opened_1
theorem dksX5_opened_0 : cX5_opened.data.toList.drop 0 = dktX5_opened_0 := by decide +kernel
theorem dksX5_opened_1 : cX5_opened.data.toList.drop 22 = dktX5_opened_1 := dk_seg dksX5_opened_0 22 rfl rfl
theorem dX5_opened_0 : decode cX5_opened 0 = .ok (.new 13, 3) := dk_187 0 13 (dk_at dksX5_opened_0 0 rfl rfl)
theorem dX5_opened_3 : decode cX5_opened 3 = .ok (.dup, 1) := dk_89 (dk_at dksX5_opened_0 3 rfl rfl)
theorem dX5_opened_4 : decode cX5_opened 4 = .ok (.aload_n 0, 1) := dk_42 (dk_at dksX5_opened_0 4 rfl rfl)
theorem dX5_opened_5 : decode cX5_opened 5 = .ok (.getfield 23, 3) := dk_180 0 23 (dk_at dksX5_opened_0 5 rfl rfl)
theorem dX5_opened_8 : decode cX5_opened 8 = .ok (.aload_n 0, 1) := dk_42 (dk_at dksX5_opened_0 8 rfl rfl)
theorem dX5_opened_9 : decode cX5_opened 9 = .ok (.getfield 27, 3) := dk_180 0 27 (dk_at dksX5_opened_0 9 rfl rfl)
theorem dX5_opened_12 : decode cX5_opened 12 = .ok (.aload_n 0, 1) := dk_42 (dk_at dksX5_opened_0 12 rfl rfl)
theorem dX5_opened_13 : decode cX5_opened 13 = .ok (.getfield 30, 3) := dk_180 0 30 (dk_at dksX5_opened_0 13 rfl rfl)
theorem dX5_opened_16 : decode cX5_opened 16 = .ok (.aload_n 0, 1) := dk_42 (dk_at dksX5_opened_0 16 rfl rfl)
theorem dX5_opened_17 : decode cX5_opened 17 = .ok (.getfield 33, 3) := dk_180 0 33 (dk_at dksX5_opened_0 17 rfl rfl)
theorem dX5_opened_20 : decode cX5_opened 20 = .ok (.iconst 0, 1) := dk_3 (dk_at dksX5_opened_0 20 rfl rfl)
theorem dX5_opened_21 : decode cX5_opened 21 = .ok (.aload_n 0, 1) := dk_42 (dk_at dksX5_opened_0 21 rfl rfl)
theorem dX5_opened_22 : decode cX5_opened 22 = .ok (.getfield 40, 3) := dk_180 0 40 (dk_at dksX5_opened_1 0 rfl rfl)
theorem dX5_opened_25 : decode cX5_opened 25 = .ok (.invokespecial 12, 3) := dk_183 0 12 (dk_at dksX5_opened_1 3 rfl rfl)
theorem dX5_opened_28 : decode cX5_opened 28 = .ok (.areturn, 1) := dk_176 (dk_at dksX5_opened_1 6 rfl rfl)
abbrev cX5_text : ByteArray := prog_3_method_10_code
def yX5_text : MethodName := ⟨RX5, "text", "(I)Ljava/lang/String;"⟩
def dkwX5_text_4 : List UInt8 := [182, 0, 54, 182, 0, 62, 167, 0, 5, 18, 66, 182, 0, 59, 182, 0, 62, 176]
abbrev dktX5_text_4 : List UInt8 := dkwX5_text_4 ++ []
def dkwX5_text_3 : List UInt8 := [153, 0, 32, 187, 0, 47, 89, 183, 0, 49, 18, 57, 182, 0, 59, 16, 97, 42, 180, 0, 33, 96, 146]
abbrev dktX5_text_3 : List UInt8 := dkwX5_text_3 ++ dktX5_text_4
def dkwX5_text_2 : List UInt8 := [16, 111, 167, 0, 5, 16, 101, 182, 0, 54, 42, 180, 0, 27, 182, 0, 50, 87, 44, 42, 180, 0, 36]
abbrev dktX5_text_2 : List UInt8 := dkwX5_text_2 ++ dktX5_text_3
def dkwX5_text_1 : List UInt8 := [182, 0, 50, 42, 180, 0, 30, 154, 0, 8, 16, 45, 167, 0, 18, 42, 180, 0, 30, 4, 160, 0, 8]
abbrev dktX5_text_1 : List UInt8 := dkwX5_text_1 ++ dktX5_text_2
def dkwX5_text_0 : List UInt8 := [187, 0, 47, 89, 183, 0, 49, 77, 44, 27, 182, 0, 50, 16, 58, 182, 0, 54, 42, 180, 0, 23]
abbrev dktX5_text_0 : List UInt8 := dkwX5_text_0 ++ dktX5_text_1
theorem dksX5_text_0 : cX5_text.data.toList.drop 0 = dktX5_text_0 := by decide +kernel
theorem dksX5_text_1 : cX5_text.data.toList.drop 22 = dktX5_text_1 := dk_seg dksX5_text_0 22 rfl rfl
theorem dksX5_text_2 : cX5_text.data.toList.drop 45 = dktX5_text_2 := dk_seg dksX5_text_1 23 rfl rfl
theorem dksX5_text_3 : cX5_text.data.toList.drop 68 = dktX5_text_3 := dk_seg dksX5_text_2 23 rfl rfl
theorem dksX5_text_4 : cX5_text.data.toList.drop 91 = dktX5_text_4 := dk_seg dksX5_text_3 23 rfl rfl
theorem dX5_text_0 : decode cX5_text 0 = .ok (.new 47, 3) := dk_187 0 47 (dk_at dksX5_text_0 0 rfl rfl)
theorem dX5_text_3 : decode cX5_text 3 = .ok (.dup, 1) := dk_89 (dk_at dksX5_text_0 3 rfl rfl)
theorem dX5_text_4 : decode cX5_text 4 = .ok (.invokespecial 49, 3) := dk_183 0 49 (dk_at dksX5_text_0 4 rfl rfl)
theorem dX5_text_7 : decode cX5_text 7 = .ok (.astore_n 2, 1) := dk_77 (dk_at dksX5_text_0 7 rfl rfl)
theorem dX5_text_8 : decode cX5_text 8 = .ok (.aload_n 2, 1) := dk_44 (dk_at dksX5_text_0 8 rfl rfl)
theorem dX5_text_9 : decode cX5_text 9 = .ok (.iload_n 1, 1) := dk_27 (dk_at dksX5_text_0 9 rfl rfl)
theorem dX5_text_10 : decode cX5_text 10 = .ok (.invokevirtual 50, 3) := dk_182 0 50 (dk_at dksX5_text_0 10 rfl rfl)
theorem dX5_text_13 : decode cX5_text 13 = .ok (.bipush 58, 2) := dk_16 58 (dk_at dksX5_text_0 13 rfl rfl)
theorem dX5_text_15 : decode cX5_text 15 = .ok (.invokevirtual 54, 3) := dk_182 0 54 (dk_at dksX5_text_0 15 rfl rfl)
theorem dX5_text_18 : decode cX5_text 18 = .ok (.aload_n 0, 1) := dk_42 (dk_at dksX5_text_0 18 rfl rfl)
theorem dX5_text_19 : decode cX5_text 19 = .ok (.getfield 23, 3) := dk_180 0 23 (dk_at dksX5_text_0 19 rfl rfl)
theorem dX5_text_22 : decode cX5_text 22 = .ok (.invokevirtual 50, 3) := dk_182 0 50 (dk_at dksX5_text_1 0 rfl rfl)
theorem dX5_text_25 : decode cX5_text 25 = .ok (.aload_n 0, 1) := dk_42 (dk_at dksX5_text_1 3 rfl rfl)
theorem dX5_text_26 : decode cX5_text 26 = .ok (.getfield 30, 3) := dk_180 0 30 (dk_at dksX5_text_1 4 rfl rfl)
theorem dX5_text_29 : decode cX5_text 29 = .ok (.ifCond .ne 8, 3) := dk_154 0 8 (dk_at dksX5_text_1 7 rfl rfl)
theorem dX5_text_32 : decode cX5_text 32 = .ok (.bipush 45, 2) := dk_16 45 (dk_at dksX5_text_1 10 rfl rfl)
theorem dX5_text_34 : decode cX5_text 34 = .ok (.goto 18, 3) := dk_167 0 18 (dk_at dksX5_text_1 12 rfl rfl)
theorem dX5_text_37 : decode cX5_text 37 = .ok (.aload_n 0, 1) := dk_42 (dk_at dksX5_text_1 15 rfl rfl)
theorem dX5_text_38 : decode cX5_text 38 = .ok (.getfield 30, 3) := dk_180 0 30 (dk_at dksX5_text_1 16 rfl rfl)
theorem dX5_text_41 : decode cX5_text 41 = .ok (.iconst 1, 1) := dk_4 (dk_at dksX5_text_1 19 rfl rfl)
theorem dX5_text_42 : decode cX5_text 42 = .ok (.if_icmp .ne 8, 3) := dk_160 0 8 (dk_at dksX5_text_1 20 rfl rfl)
theorem dX5_text_45 : decode cX5_text 45 = .ok (.bipush 111, 2) := dk_16 111 (dk_at dksX5_text_2 0 rfl rfl)
theorem dX5_text_47 : decode cX5_text 47 = .ok (.goto 5, 3) := dk_167 0 5 (dk_at dksX5_text_2 2 rfl rfl)
theorem dX5_text_50 : decode cX5_text 50 = .ok (.bipush 101, 2) := dk_16 101 (dk_at dksX5_text_2 5 rfl rfl)
theorem dX5_text_52 : decode cX5_text 52 = .ok (.invokevirtual 54, 3) := dk_182 0 54 (dk_at dksX5_text_2 7 rfl rfl)
theorem dX5_text_55 : decode cX5_text 55 = .ok (.aload_n 0, 1) := dk_42 (dk_at dksX5_text_2 10 rfl rfl)
theorem dX5_text_56 : decode cX5_text 56 = .ok (.getfield 27, 3) := dk_180 0 27 (dk_at dksX5_text_2 11 rfl rfl)
theorem dX5_text_59 : decode cX5_text 59 = .ok (.invokevirtual 50, 3) := dk_182 0 50 (dk_at dksX5_text_2 14 rfl rfl)
theorem dX5_text_62 : decode cX5_text 62 = .ok (.pop, 1) := dk_87 (dk_at dksX5_text_2 17 rfl rfl)
theorem dX5_text_63 : decode cX5_text 63 = .ok (.aload_n 2, 1) := dk_44 (dk_at dksX5_text_2 18 rfl rfl)
theorem dX5_text_64 : decode cX5_text 64 = .ok (.aload_n 0, 1) := dk_42 (dk_at dksX5_text_2 19 rfl rfl)
theorem dX5_text_65 : decode cX5_text 65 = .ok (.getfield 36, 3) := dk_180 0 36 (dk_at dksX5_text_2 20 rfl rfl)
theorem dX5_text_68 : decode cX5_text 68 = .ok (.ifCond .eq 32, 3) := dk_153 0 32 (dk_at dksX5_text_3 0 rfl rfl)
theorem dX5_text_71 : decode cX5_text 71 = .ok (.new 47, 3) := dk_187 0 47 (dk_at dksX5_text_3 3 rfl rfl)
theorem dX5_text_74 : decode cX5_text 74 = .ok (.dup, 1) := dk_89 (dk_at dksX5_text_3 6 rfl rfl)
theorem dX5_text_75 : decode cX5_text 75 = .ok (.invokespecial 49, 3) := dk_183 0 49 (dk_at dksX5_text_3 7 rfl rfl)
theorem dX5_text_78 : decode cX5_text 78 = .ok (.ldc 57, 2) := dk_18 57 (dk_at dksX5_text_3 10 rfl rfl)
theorem dX5_text_80 : decode cX5_text 80 = .ok (.invokevirtual 59, 3) := dk_182 0 59 (dk_at dksX5_text_3 12 rfl rfl)
theorem dX5_text_83 : decode cX5_text 83 = .ok (.bipush 97, 2) := dk_16 97 (dk_at dksX5_text_3 15 rfl rfl)
theorem dX5_text_85 : decode cX5_text 85 = .ok (.aload_n 0, 1) := dk_42 (dk_at dksX5_text_3 17 rfl rfl)
theorem dX5_text_86 : decode cX5_text 86 = .ok (.getfield 33, 3) := dk_180 0 33 (dk_at dksX5_text_3 18 rfl rfl)
theorem dX5_text_89 : decode cX5_text 89 = .ok (.iadd, 1) := dk_96 (dk_at dksX5_text_3 21 rfl rfl)
theorem dX5_text_90 : decode cX5_text 90 = .ok (.i2c, 1) := dk_146 (dk_at dksX5_text_3 22 rfl rfl)
theorem dX5_text_91 : decode cX5_text 91 = .ok (.invokevirtual 54, 3) := dk_182 0 54 (dk_at dksX5_text_4 0 rfl rfl)
theorem dX5_text_94 : decode cX5_text 94 = .ok (.invokevirtual 62, 3) := dk_182 0 62 (dk_at dksX5_text_4 3 rfl rfl)
theorem dX5_text_97 : decode cX5_text 97 = .ok (.goto 5, 3) := dk_167 0 5 (dk_at dksX5_text_4 6 rfl rfl)
theorem dX5_text_100 : decode cX5_text 100 = .ok (.ldc 66, 2) := dk_18 66 (dk_at dksX5_text_4 9 rfl rfl)
theorem dX5_text_102 : decode cX5_text 102 = .ok (.invokevirtual 59, 3) := dk_182 0 59 (dk_at dksX5_text_4 11 rfl rfl)
theorem dX5_text_105 : decode cX5_text 105 = .ok (.invokevirtual 62, 3) := dk_182 0 62 (dk_at dksX5_text_4 14 rfl rfl)
theorem dX5_text_108 : decode cX5_text 108 = .ok (.areturn, 1) := dk_176 (dk_at dksX5_text_4 17 rfl rfl)
theorem q110 : (Jvm.Cond.initialized "ParityMaze$Door") ∈ lw_all := lw_g (lw_at lw_m1 23 rfl) rfl
theorem q458 : (Jvm.Cond.selects "ParityMaze$Door" ({ cls := "java/lang/Object", name := "getClass", desc := "()Ljava/lang/Class;" } : Jvm.MethodName) ({ cls := "java/lang/Object", name := "getClass", desc := "()Ljava/lang/Class;" } : Jvm.MethodName)) ∈ lw_all := lw_g (lw_at lw_m2 131 rfl) rfl
theorem q675 : (Jvm.Cond.instanceMethod ({ cls := "ParityMaze$Door", name := "isBetween", desc := "(II)Z" } : Jvm.MethodName)) ∈ lw_all := lw_g (lw_at lw_m3 108 rfl) rfl
theorem q676 : (Jvm.Cond.selects "ParityMaze$Door" ({ cls := "ParityMaze$Door", name := "isBetween", desc := "(II)Z" } : Jvm.MethodName) ({ cls := "ParityMaze$Door", name := "isBetween", desc := "(II)Z" } : Jvm.MethodName)) ∈ lw_all := lw_g (lw_at lw_m3 109 rfl) rfl
theorem q677 : (Jvm.Cond.code ({ cls := "ParityMaze$Door", name := "isBetween", desc := "(II)Z" } : Jvm.MethodName) prog_3_method_6_code (3 : Nat) (Option.some Jvm.ClassFile.FieldType.boolean)) ∈ lw_all := lw_g (lw_at lw_m3 110 rfl) rfl
theorem q678 : (Jvm.Cond.methodLink "ParityMaze$Door" (43 : Nat) ({ cls := "ParityMaze$Door", name := "isAt", desc := "(I)Z" } : Jvm.MethodName)) ∈ lw_all := lw_g (lw_at lw_m3 111 rfl) rfl
theorem q679 : (Jvm.Cond.instanceMethod ({ cls := "ParityMaze$Door", name := "isAt", desc := "(I)Z" } : Jvm.MethodName)) ∈ lw_all := lw_g (lw_at lw_m3 112 rfl) rfl
theorem q680 : (Jvm.Cond.selects "ParityMaze$Door" ({ cls := "ParityMaze$Door", name := "isAt", desc := "(I)Z" } : Jvm.MethodName) ({ cls := "ParityMaze$Door", name := "isAt", desc := "(I)Z" } : Jvm.MethodName)) ∈ lw_all := lw_g (lw_at lw_m3 113 rfl) rfl
theorem q681 : (Jvm.Cond.code ({ cls := "ParityMaze$Door", name := "isAt", desc := "(I)Z" } : Jvm.MethodName) prog_3_method_5_code (2 : Nat) (Option.some Jvm.ClassFile.FieldType.boolean)) ∈ lw_all := lw_g (lw_at lw_m3 114 rfl) rfl
theorem q682 : (Jvm.Cond.instantiable "ParityMaze$Door" (6 : Nat)) ∈ lw_all := lw_g (lw_at lw_m3 115 rfl) rfl
theorem q684 : (Jvm.Cond.instanceMethod ({ cls := "ParityMaze$Door", name := "<init>", desc := "(IIII)V" } : Jvm.MethodName)) ∈ lw_all := lw_g (lw_at lw_m3 117 rfl) rfl
theorem q685 : (Jvm.Cond.code ({ cls := "ParityMaze$Door", name := "<init>", desc := "(IIII)V" } : Jvm.MethodName) prog_3_method_1_code (5 : Nat) (Option.none : Option Jvm.ClassFile.FieldType)) ∈ lw_all := lw_g (lw_at lw_m3 118 rfl) rfl
theorem q686 : (Jvm.Cond.methodLink "ParityMaze$Door" (3 : Nat) ({ cls := "java/lang/Math", name := "min", desc := "(II)I" } : Jvm.MethodName)) ∈ lw_all := lw_g (lw_at lw_m3 119 rfl) rfl
theorem q687 : (Jvm.Cond.methodLink "ParityMaze$Door" (9 : Nat) ({ cls := "java/lang/Math", name := "max", desc := "(II)I" } : Jvm.MethodName)) ∈ lw_all := lw_g (lw_at lw_m3 120 rfl) rfl
theorem q688 : (Jvm.Cond.methodLink "ParityMaze$Door" (12 : Nat) ({ cls := "ParityMaze$Door", name := "<init>", desc := "(IIIIZI)V" } : Jvm.MethodName)) ∈ lw_all := lw_g (lw_at lw_m3 121 rfl) rfl
theorem q689 : (Jvm.Cond.instanceMethod ({ cls := "ParityMaze$Door", name := "<init>", desc := "(IIIIZI)V" } : Jvm.MethodName)) ∈ lw_all := lw_g (lw_at lw_m3 122 rfl) rfl
theorem q690 : (Jvm.Cond.code ({ cls := "ParityMaze$Door", name := "<init>", desc := "(IIIIZI)V" } : Jvm.MethodName) prog_3_method_2_code (7 : Nat) (Option.none : Option Jvm.ClassFile.FieldType)) ∈ lw_all := lw_g (lw_at lw_m3 123 rfl) rfl
theorem q691 : (Jvm.Cond.methodLink "ParityMaze$Door" (18 : Nat) ({ cls := "java/lang/Object", name := "<init>", desc := "()V" } : Jvm.MethodName)) ∈ lw_all := lw_g (lw_at lw_m3 124 rfl) rfl
theorem q692 : (Jvm.Cond.fieldLink "ParityMaze$Door" (23 : Nat) "ParityMaze$Door" "lower" "I") ∈ lw_all := lw_g (lw_at lw_m3 125 rfl) rfl
theorem q694 : (Jvm.Cond.fieldLink "ParityMaze$Door" (27 : Nat) "ParityMaze$Door" "upper" "I") ∈ lw_all := lw_g (lw_at lw_m3 127 rfl) rfl
theorem q696 : (Jvm.Cond.fieldLink "ParityMaze$Door" (30 : Nat) "ParityMaze$Door" "kind" "I") ∈ lw_all := lw_g (lw_at lw_m3 129 rfl) rfl
theorem q697 : (Jvm.Cond.fieldLink "ParityMaze$Door" (33 : Nat) "ParityMaze$Door" "colour" "I") ∈ lw_all := lw_g (lw_at lw_m3 130 rfl) rfl
theorem q699 : (Jvm.Cond.fieldLink "ParityMaze$Door" (36 : Nat) "ParityMaze$Door" "isShut" "Z") ∈ lw_all := lw_g (lw_at lw_m3 132 rfl) rfl
theorem q701 : (Jvm.Cond.fieldLink "ParityMaze$Door" (40 : Nat) "ParityMaze$Door" "gone" "I") ∈ lw_all := lw_g (lw_at lw_m3 134 rfl) rfl
theorem q702 : (Jvm.Cond.laysFinal "ParityMaze$Door" "ParityMaze$Door" "lower" "I") ∈ lw_all := lw_g (lw_at lw_m3 135 rfl) rfl
theorem q703 : (Jvm.Cond.soleField "ParityMaze$Door" "lower") ∈ lw_all := lw_g (lw_at lw_m3 136 rfl) rfl
theorem q704 : (Jvm.Cond.laysFinal "ParityMaze$Door" "ParityMaze$Door" "upper" "I") ∈ lw_all := lw_g (lw_at lw_m3 137 rfl) rfl
theorem q705 : (Jvm.Cond.soleField "ParityMaze$Door" "upper") ∈ lw_all := lw_g (lw_at lw_m3 138 rfl) rfl
theorem q706 : (Jvm.Cond.laysFinal "ParityMaze$Door" "ParityMaze$Door" "kind" "I") ∈ lw_all := lw_g (lw_at lw_m3 139 rfl) rfl
theorem q707 : (Jvm.Cond.soleField "ParityMaze$Door" "kind") ∈ lw_all := lw_g (lw_at lw_m3 140 rfl) rfl
theorem q708 : (Jvm.Cond.laysFinal "ParityMaze$Door" "ParityMaze$Door" "colour" "I") ∈ lw_all := lw_g (lw_at lw_m3 141 rfl) rfl
theorem q709 : (Jvm.Cond.soleField "ParityMaze$Door" "colour") ∈ lw_all := lw_g (lw_at lw_m3 142 rfl) rfl
theorem q710 : (Jvm.Cond.laysFinal "ParityMaze$Door" "ParityMaze$Door" "isShut" "Z") ∈ lw_all := lw_g (lw_at lw_m3 143 rfl) rfl
theorem q711 : (Jvm.Cond.soleField "ParityMaze$Door" "isShut") ∈ lw_all := lw_g (lw_at lw_m3 144 rfl) rfl
theorem q712 : (Jvm.Cond.laysFinal "ParityMaze$Door" "ParityMaze$Door" "gone" "I") ∈ lw_all := lw_g (lw_at lw_m3 145 rfl) rfl
theorem q713 : (Jvm.Cond.soleField "ParityMaze$Door" "gone") ∈ lw_all := lw_g (lw_at lw_m3 146 rfl) rfl
theorem q714 : (Jvm.Cond.superclass "ParityMaze$Door" "java/lang/Object") ∈ lw_all := lw_g (lw_at lw_m3 147 rfl) rfl
theorem q986 : (Jvm.Cond.selects "ParityMaze$Door" ({ cls := "java/lang/Object", name := "hashCode", desc := "()I" } : Jvm.MethodName) ({ cls := "java/lang/Object", name := "hashCode", desc := "()I" } : Jvm.MethodName)) ∈ lw_all := lw_g (lw_at lw_m4 179 rfl) rfl
theorem q1409 : (Jvm.Cond.selects "ParityMaze$Door" ({ cls := "java/lang/Object", name := "equals", desc := "(Ljava/lang/Object;)Z" } : Jvm.MethodName) ({ cls := "java/lang/Object", name := "equals", desc := "(Ljava/lang/Object;)Z" } : Jvm.MethodName)) ∈ lw_all := lw_g (lw_at lw_m6 122 rfl) rfl
theorem q1584 : (Jvm.Cond.instanceMethod ({ cls := "ParityMaze$Door", name := "isFor", desc := "(I)Z" } : Jvm.MethodName)) ∈ lw_all := lw_g (lw_at lw_m7 57 rfl) rfl
theorem q1585 : (Jvm.Cond.selects "ParityMaze$Door" ({ cls := "ParityMaze$Door", name := "isFor", desc := "(I)Z" } : Jvm.MethodName) ({ cls := "ParityMaze$Door", name := "isFor", desc := "(I)Z" } : Jvm.MethodName)) ∈ lw_all := lw_g (lw_at lw_m7 58 rfl) rfl
theorem q1586 : (Jvm.Cond.code ({ cls := "ParityMaze$Door", name := "isFor", desc := "(I)Z" } : Jvm.MethodName) prog_3_method_8_code (2 : Nat) (Option.some Jvm.ClassFile.FieldType.boolean)) ∈ lw_all := lw_g (lw_at lw_m7 59 rfl) rfl
theorem q1596 : (Jvm.Cond.instanceMethod ({ cls := "ParityMaze$Door", name := "beyond", desc := "(I)I" } : Jvm.MethodName)) ∈ lw_all := lw_g (lw_at lw_m7 69 rfl) rfl
theorem q1597 : (Jvm.Cond.selects "ParityMaze$Door" ({ cls := "ParityMaze$Door", name := "beyond", desc := "(I)I" } : Jvm.MethodName) ({ cls := "ParityMaze$Door", name := "beyond", desc := "(I)I" } : Jvm.MethodName)) ∈ lw_all := lw_g (lw_at lw_m7 70 rfl) rfl
theorem q1598 : (Jvm.Cond.code ({ cls := "ParityMaze$Door", name := "beyond", desc := "(I)I" } : Jvm.MethodName) prog_3_method_7_code (2 : Nat) (Option.some Jvm.ClassFile.FieldType.int)) ∈ lw_all := lw_g (lw_at lw_m7 71 rfl) rfl
theorem q1673 : (Jvm.Cond.instanceMethod ({ cls := "ParityMaze$Door", name := "of", desc := "(I)I" } : Jvm.MethodName)) ∈ lw_all := lw_g (lw_at lw_m7 146 rfl) rfl
theorem q1674 : (Jvm.Cond.selects "ParityMaze$Door" ({ cls := "ParityMaze$Door", name := "of", desc := "(I)I" } : Jvm.MethodName) ({ cls := "ParityMaze$Door", name := "of", desc := "(I)I" } : Jvm.MethodName)) ∈ lw_all := lw_g (lw_at lw_m7 147 rfl) rfl
theorem q1675 : (Jvm.Cond.code ({ cls := "ParityMaze$Door", name := "of", desc := "(I)I" } : Jvm.MethodName) prog_3_method_9_code (2 : Nat) (Option.some Jvm.ClassFile.FieldType.int)) ∈ lw_all := lw_g (lw_at lw_m7 148 rfl) rfl
theorem q1699 : (Jvm.Cond.instanceMethod ({ cls := "ParityMaze$Door", name := "goneThrough", desc := "()LParityMaze$Door;" } : Jvm.MethodName)) ∈ lw_all := lw_g (lw_at lw_m7 172 rfl) rfl
theorem q1700 : (Jvm.Cond.selects "ParityMaze$Door" ({ cls := "ParityMaze$Door", name := "goneThrough", desc := "()LParityMaze$Door;" } : Jvm.MethodName) ({ cls := "ParityMaze$Door", name := "goneThrough", desc := "()LParityMaze$Door;" } : Jvm.MethodName)) ∈ lw_all := lw_g (lw_at lw_m7 173 rfl) rfl
theorem q1701 : (Jvm.Cond.code ({ cls := "ParityMaze$Door", name := "goneThrough", desc := "()LParityMaze$Door;" } : Jvm.MethodName) prog_3_method_4_code (1 : Nat) (Option.some (Jvm.ClassFile.FieldType.object "ParityMaze$Door"))) ∈ lw_all := lw_g (lw_at lw_m7 174 rfl) rfl
theorem q1702 : (Jvm.Cond.classLink "ParityMaze$Door" (13 : Nat) "ParityMaze$Door") ∈ lw_all := lw_g (lw_at lw_m7 175 rfl) rfl
theorem q1736 : (Jvm.Cond.instanceMethod ({ cls := "ParityMaze$Door", name := "opened", desc := "()LParityMaze$Door;" } : Jvm.MethodName)) ∈ lw_all := lw_g (lw_at lw_m7 209 rfl) rfl
theorem q1737 : (Jvm.Cond.selects "ParityMaze$Door" ({ cls := "ParityMaze$Door", name := "opened", desc := "()LParityMaze$Door;" } : Jvm.MethodName) ({ cls := "ParityMaze$Door", name := "opened", desc := "()LParityMaze$Door;" } : Jvm.MethodName)) ∈ lw_all := lw_g (lw_at lw_m7 210 rfl) rfl
theorem q1738 : (Jvm.Cond.code ({ cls := "ParityMaze$Door", name := "opened", desc := "()LParityMaze$Door;" } : Jvm.MethodName) prog_3_method_3_code (1 : Nat) (Option.some (Jvm.ClassFile.FieldType.object "ParityMaze$Door"))) ∈ lw_all := lw_g (lw_at lw_m7 211 rfl) rfl
theorem q2365 : (Jvm.Cond.instanceMethod ({ cls := "ParityMaze$Door", name := "text", desc := "(I)Ljava/lang/String;" } : Jvm.MethodName)) ∈ lw_all := lw_g (lw_at lw_m10 118 rfl) rfl
theorem q2366 : (Jvm.Cond.selects "ParityMaze$Door" ({ cls := "ParityMaze$Door", name := "text", desc := "(I)Ljava/lang/String;" } : Jvm.MethodName) ({ cls := "ParityMaze$Door", name := "text", desc := "(I)Ljava/lang/String;" } : Jvm.MethodName)) ∈ lw_all := lw_g (lw_at lw_m10 119 rfl) rfl
theorem q2367 : (Jvm.Cond.code ({ cls := "ParityMaze$Door", name := "text", desc := "(I)Ljava/lang/String;" } : Jvm.MethodName) prog_3_method_10_code (3 : Nat) (Option.some (Jvm.ClassFile.FieldType.object "java/lang/String"))) ∈ lw_all := lw_g (lw_at lw_m10 120 rfl) rfl
theorem q2368 : (Jvm.Cond.classLink "ParityMaze$Door" (47 : Nat) "java/lang/StringBuilder") ∈ lw_all := lw_g (lw_at lw_m10 121 rfl) rfl
theorem q2369 : (Jvm.Cond.methodLink "ParityMaze$Door" (49 : Nat) ({ cls := "java/lang/StringBuilder", name := "<init>", desc := "()V" } : Jvm.MethodName)) ∈ lw_all := lw_g (lw_at lw_m10 122 rfl) rfl
theorem q2370 : (Jvm.Cond.methodLink "ParityMaze$Door" (50 : Nat) ({ cls := "java/lang/StringBuilder", name := "append", desc := "(I)Ljava/lang/StringBuilder;" } : Jvm.MethodName)) ∈ lw_all := lw_g (lw_at lw_m10 123 rfl) rfl
theorem q2371 : (Jvm.Cond.methodLink "ParityMaze$Door" (54 : Nat) ({ cls := "java/lang/StringBuilder", name := "append", desc := "(C)Ljava/lang/StringBuilder;" } : Jvm.MethodName)) ∈ lw_all := lw_g (lw_at lw_m10 124 rfl) rfl
theorem q2372 : (Jvm.Cond.stringRef "ParityMaze$Door" (57 : Nat) "!") ∈ lw_tbl := lw_at lw_m10 125 rfl
theorem q2373 : (Jvm.Cond.methodLink "ParityMaze$Door" (59 : Nat) ({ cls := "java/lang/StringBuilder", name := "append", desc := "(Ljava/lang/String;)Ljava/lang/StringBuilder;" } : Jvm.MethodName)) ∈ lw_all := lw_g (lw_at lw_m10 126 rfl) rfl
theorem q2374 : (Jvm.Cond.methodLink "ParityMaze$Door" (62 : Nat) ({ cls := "java/lang/StringBuilder", name := "toString", desc := "()Ljava/lang/String;" } : Jvm.MethodName)) ∈ lw_all := lw_g (lw_at lw_m10 127 rfl) rfl
theorem q2375 : (Jvm.Cond.stringRef "ParityMaze$Door" (66 : Nat) "") ∈ lw_tbl := lw_at lw_m10 128 rfl
theorem q2896 : (Jvm.Cond.castable "ParityMaze$Door" "java/lang/Object") ∈ lw_tbl := lw_at lw_m12 169 rfl
theorem in_X5 : ∀ w ∈ wsX50, w ∈ lw_all := lw_in wsX50 [702, 704, 706, 708, 710, 712] (by decide +kernel) (by decide +kernel)
/-! ParityMaze$Spot -/
set_option maxRecDepth 100000
def RX6 : String := "ParityMaze$Spot"
def TX6 : u_T := fun k => match k with
  | 0 => ("ParityMaze$Spot", "room", "I", true)
  | _ => ("ParityMaze$Spot", "parity", "I", true)
def tyX6 : Nat → FieldType := fun k => match k with
  | 0 => .int
  | _ => .int
abbrev wsX60 : List Cond := u_ws RX6 TX6 2
theorem nmX6 : ∀ a, a < 2 → ∀ b, b < 2 → a ≠ b → (TX6 a).2.1 ≠ (TX6 b).2.1 := by decide +kernel
theorem tyX6_ok : ∀ k, k < 2 → parseFieldDescriptor (TX6 k).2.2.1 = some (tyX6 k) := by decide +kernel
abbrev cX6_init : ByteArray := prog_8_method_1_code
def yX6_init : MethodName := ⟨RX6, "<init>", "(II)V"⟩
def dkwX6_init_0 : List UInt8 := [42, 183, 0, 1, 42, 27, 181, 0, 7, 42, 28, 181, 0, 13, 177]
abbrev dktX6_init_0 : List UInt8 := dkwX6_init_0 ++ []
theorem dksX6_init_0 : cX6_init.data.toList.drop 0 = dktX6_init_0 := by decide +kernel
theorem dX6_init_0 : decode cX6_init 0 = .ok (.aload_n 0, 1) := dk_42 (dk_at dksX6_init_0 0 rfl rfl)
theorem dX6_init_1 : decode cX6_init 1 = .ok (.invokespecial 1, 3) := dk_183 0 1 (dk_at dksX6_init_0 1 rfl rfl)
theorem dX6_init_4 : decode cX6_init 4 = .ok (.aload_n 0, 1) := dk_42 (dk_at dksX6_init_0 4 rfl rfl)
theorem dX6_init_5 : decode cX6_init 5 = .ok (.iload_n 1, 1) := dk_27 (dk_at dksX6_init_0 5 rfl rfl)
theorem dX6_init_6 : decode cX6_init 6 = .ok (.putfield 7, 3) := dk_181 0 7 (dk_at dksX6_init_0 6 rfl rfl)
theorem dX6_init_9 : decode cX6_init 9 = .ok (.aload_n 0, 1) := dk_42 (dk_at dksX6_init_0 9 rfl rfl)
theorem dX6_init_10 : decode cX6_init 10 = .ok (.iload_n 2, 1) := dk_28 (dk_at dksX6_init_0 10 rfl rfl)
theorem dX6_init_11 : decode cX6_init 11 = .ok (.putfield 13, 3) := dk_181 0 13 (dk_at dksX6_init_0 11 rfl rfl)
theorem dX6_init_14 : decode cX6_init 14 = .ok (.return_, 1) := dk_177 (dk_at dksX6_init_0 14 rfl rfl)
abbrev cX6_hashCode : ByteArray := prog_8_method_3_code
def yX6_hashCode : MethodName := ⟨RX6, "hashCode", "()I"⟩
def dkwX6_hashCode_0 : List UInt8 := [5, 42, 180, 0, 7, 104, 42, 180, 0, 13, 96, 172]
abbrev dktX6_hashCode_0 : List UInt8 := dkwX6_hashCode_0 ++ []
theorem dksX6_hashCode_0 : cX6_hashCode.data.toList.drop 0 = dktX6_hashCode_0 := by decide +kernel
theorem dX6_hashCode_0 : decode cX6_hashCode 0 = .ok (.iconst 2, 1) := dk_5 (dk_at dksX6_hashCode_0 0 rfl rfl)
theorem dX6_hashCode_1 : decode cX6_hashCode 1 = .ok (.aload_n 0, 1) := dk_42 (dk_at dksX6_hashCode_0 1 rfl rfl)
theorem dX6_hashCode_2 : decode cX6_hashCode 2 = .ok (.getfield 7, 3) := dk_180 0 7 (dk_at dksX6_hashCode_0 2 rfl rfl)
theorem dX6_hashCode_5 : decode cX6_hashCode 5 = .ok (.imul, 1) := dk_104 (dk_at dksX6_hashCode_0 5 rfl rfl)
theorem dX6_hashCode_6 : decode cX6_hashCode 6 = .ok (.aload_n 0, 1) := dk_42 (dk_at dksX6_hashCode_0 6 rfl rfl)
theorem dX6_hashCode_7 : decode cX6_hashCode 7 = .ok (.getfield 13, 3) := dk_180 0 13 (dk_at dksX6_hashCode_0 7 rfl rfl)
theorem dX6_hashCode_10 : decode cX6_hashCode 10 = .ok (.iadd, 1) := dk_96 (dk_at dksX6_hashCode_0 10 rfl rfl)
theorem dX6_hashCode_11 : decode cX6_hashCode 11 = .ok (.ireturn, 1) := dk_172 (dk_at dksX6_hashCode_0 11 rfl rfl)
abbrev cX6_equals : ByteArray := prog_8_method_2_code
def yX6_equals : MethodName := ⟨RX6, "equals", "(Ljava/lang/Object;)Z"⟩
def dkwX6_equals_1 : List UInt8 := [180, 0, 13, 44, 180, 0, 13, 160, 0, 7, 4, 167, 0, 4, 3, 172]
abbrev dktX6_equals_1 : List UInt8 := dkwX6_equals_1 ++ []
def dkwX6_equals_0 : List UInt8 := [43, 193, 0, 8, 153, 0, 34, 43, 192, 0, 8, 77, 42, 180, 0, 7, 44, 180, 0, 7, 160, 0, 18, 42]
abbrev dktX6_equals_0 : List UInt8 := dkwX6_equals_0 ++ dktX6_equals_1
theorem dksX6_equals_0 : cX6_equals.data.toList.drop 0 = dktX6_equals_0 := by decide +kernel
theorem dksX6_equals_1 : cX6_equals.data.toList.drop 24 = dktX6_equals_1 := dk_seg dksX6_equals_0 24 rfl rfl
theorem dX6_equals_0 : decode cX6_equals 0 = .ok (.aload_n 1, 1) := dk_43 (dk_at dksX6_equals_0 0 rfl rfl)
theorem dX6_equals_1 : decode cX6_equals 1 = .ok (.instanceof 8, 3) := dk_193 0 8 (dk_at dksX6_equals_0 1 rfl rfl)
theorem dX6_equals_4 : decode cX6_equals 4 = .ok (.ifCond .eq 34, 3) := dk_153 0 34 (dk_at dksX6_equals_0 4 rfl rfl)
theorem dX6_equals_7 : decode cX6_equals 7 = .ok (.aload_n 1, 1) := dk_43 (dk_at dksX6_equals_0 7 rfl rfl)
theorem dX6_equals_8 : decode cX6_equals 8 = .ok (.checkcast 8, 3) := dk_192 0 8 (dk_at dksX6_equals_0 8 rfl rfl)
theorem dX6_equals_11 : decode cX6_equals 11 = .ok (.astore_n 2, 1) := dk_77 (dk_at dksX6_equals_0 11 rfl rfl)
theorem dX6_equals_12 : decode cX6_equals 12 = .ok (.aload_n 0, 1) := dk_42 (dk_at dksX6_equals_0 12 rfl rfl)
theorem dX6_equals_13 : decode cX6_equals 13 = .ok (.getfield 7, 3) := dk_180 0 7 (dk_at dksX6_equals_0 13 rfl rfl)
theorem dX6_equals_16 : decode cX6_equals 16 = .ok (.aload_n 2, 1) := dk_44 (dk_at dksX6_equals_0 16 rfl rfl)
theorem dX6_equals_17 : decode cX6_equals 17 = .ok (.getfield 7, 3) := dk_180 0 7 (dk_at dksX6_equals_0 17 rfl rfl)
theorem dX6_equals_20 : decode cX6_equals 20 = .ok (.if_icmp .ne 18, 3) := dk_160 0 18 (dk_at dksX6_equals_0 20 rfl rfl)
theorem dX6_equals_23 : decode cX6_equals 23 = .ok (.aload_n 0, 1) := dk_42 (dk_at dksX6_equals_0 23 rfl rfl)
theorem dX6_equals_24 : decode cX6_equals 24 = .ok (.getfield 13, 3) := dk_180 0 13 (dk_at dksX6_equals_1 0 rfl rfl)
theorem dX6_equals_27 : decode cX6_equals 27 = .ok (.aload_n 2, 1) := dk_44 (dk_at dksX6_equals_1 3 rfl rfl)
theorem dX6_equals_28 : decode cX6_equals 28 = .ok (.getfield 13, 3) := dk_180 0 13 (dk_at dksX6_equals_1 4 rfl rfl)
theorem dX6_equals_31 : decode cX6_equals 31 = .ok (.if_icmp .ne 7, 3) := dk_160 0 7 (dk_at dksX6_equals_1 7 rfl rfl)
theorem dX6_equals_34 : decode cX6_equals 34 = .ok (.iconst 1, 1) := dk_4 (dk_at dksX6_equals_1 10 rfl rfl)
theorem dX6_equals_35 : decode cX6_equals 35 = .ok (.goto 4, 3) := dk_167 0 4 (dk_at dksX6_equals_1 11 rfl rfl)
theorem dX6_equals_38 : decode cX6_equals 38 = .ok (.iconst 0, 1) := dk_3 (dk_at dksX6_equals_1 14 rfl rfl)
theorem dX6_equals_39 : decode cX6_equals 39 = .ok (.ireturn, 1) := dk_172 (dk_at dksX6_equals_1 15 rfl rfl)
abbrev cX6_after : ByteArray := prog_8_method_4_code
def yX6_after : MethodName := ⟨RX6, "after", "(I)LParityMaze$Spot;"⟩
def dkwX6_after_0 : List UInt8 := [187, 0, 8, 89, 42, 180, 0, 7, 42, 180, 0, 13, 27, 96, 5, 112, 183, 0, 16, 176]
abbrev dktX6_after_0 : List UInt8 := dkwX6_after_0 ++ []
theorem dksX6_after_0 : cX6_after.data.toList.drop 0 = dktX6_after_0 := by decide +kernel
theorem dX6_after_0 : decode cX6_after 0 = .ok (.new 8, 3) := dk_187 0 8 (dk_at dksX6_after_0 0 rfl rfl)
theorem dX6_after_3 : decode cX6_after 3 = .ok (.dup, 1) := dk_89 (dk_at dksX6_after_0 3 rfl rfl)
theorem dX6_after_4 : decode cX6_after 4 = .ok (.aload_n 0, 1) := dk_42 (dk_at dksX6_after_0 4 rfl rfl)
theorem dX6_after_5 : decode cX6_after 5 = .ok (.getfield 7, 3) := dk_180 0 7 (dk_at dksX6_after_0 5 rfl rfl)
theorem dX6_after_8 : decode cX6_after 8 = .ok (.aload_n 0, 1) := dk_42 (dk_at dksX6_after_0 8 rfl rfl)
theorem dX6_after_9 : decode cX6_after 9 = .ok (.getfield 13, 3) := dk_180 0 13 (dk_at dksX6_after_0 9 rfl rfl)
theorem dX6_after_12 : decode cX6_after 12 = .ok (.iload_n 1, 1) := dk_27 (dk_at dksX6_after_0 12 rfl rfl)
theorem dX6_after_13 : decode cX6_after 13 = .ok (.iadd, 1) := dk_96 (dk_at dksX6_after_0 13 rfl rfl)
theorem dX6_after_14 : decode cX6_after 14 = .ok (.iconst 2, 1) := dk_5 (dk_at dksX6_after_0 14 rfl rfl)
theorem dX6_after_15 : decode cX6_after 15 = .ok (.irem, 1) := dk_112 (dk_at dksX6_after_0 15 rfl rfl)
theorem dX6_after_16 : decode cX6_after 16 = .ok (.invokespecial 16, 3) := dk_183 0 16 (dk_at dksX6_after_0 16 rfl rfl)
theorem dX6_after_19 : decode cX6_after 19 = .ok (.areturn, 1) := dk_176 (dk_at dksX6_after_0 19 rfl rfl)
abbrev cX6_behind : ByteArray := prog_8_method_5_code
def yX6_behind : MethodName := ⟨RX6, "behind", "(LParityMaze$Door;I)LParityMaze$Spot;"⟩
def dkwX6_behind_0 : List UInt8 := [187, 0, 8, 89, 43, 42, 180, 0, 7, 182, 0, 19, 42, 180, 0, 13, 28, 96, 5, 112, 183, 0, 16, 176]
abbrev dktX6_behind_0 : List UInt8 := dkwX6_behind_0 ++ []
theorem dksX6_behind_0 : cX6_behind.data.toList.drop 0 = dktX6_behind_0 := by decide +kernel
theorem dX6_behind_0 : decode cX6_behind 0 = .ok (.new 8, 3) := dk_187 0 8 (dk_at dksX6_behind_0 0 rfl rfl)
theorem dX6_behind_3 : decode cX6_behind 3 = .ok (.dup, 1) := dk_89 (dk_at dksX6_behind_0 3 rfl rfl)
theorem dX6_behind_4 : decode cX6_behind 4 = .ok (.aload_n 1, 1) := dk_43 (dk_at dksX6_behind_0 4 rfl rfl)
theorem dX6_behind_5 : decode cX6_behind 5 = .ok (.aload_n 0, 1) := dk_42 (dk_at dksX6_behind_0 5 rfl rfl)
theorem dX6_behind_6 : decode cX6_behind 6 = .ok (.getfield 7, 3) := dk_180 0 7 (dk_at dksX6_behind_0 6 rfl rfl)
theorem dX6_behind_9 : decode cX6_behind 9 = .ok (.invokevirtual 19, 3) := dk_182 0 19 (dk_at dksX6_behind_0 9 rfl rfl)
theorem dX6_behind_12 : decode cX6_behind 12 = .ok (.aload_n 0, 1) := dk_42 (dk_at dksX6_behind_0 12 rfl rfl)
theorem dX6_behind_13 : decode cX6_behind 13 = .ok (.getfield 13, 3) := dk_180 0 13 (dk_at dksX6_behind_0 13 rfl rfl)
theorem dX6_behind_16 : decode cX6_behind 16 = .ok (.iload_n 2, 1) := dk_28 (dk_at dksX6_behind_0 16 rfl rfl)
theorem dX6_behind_17 : decode cX6_behind 17 = .ok (.iadd, 1) := dk_96 (dk_at dksX6_behind_0 17 rfl rfl)
theorem dX6_behind_18 : decode cX6_behind 18 = .ok (.iconst 2, 1) := dk_5 (dk_at dksX6_behind_0 18 rfl rfl)
theorem dX6_behind_19 : decode cX6_behind 19 = .ok (.irem, 1) := dk_112 (dk_at dksX6_behind_0 19 rfl rfl)
theorem dX6_behind_20 : decode cX6_behind 20 = .ok (.invokespecial 16, 3) := dk_183 0 16 (dk_at dksX6_behind_0 20 rfl rfl)
theorem dX6_behind_23 : decode cX6_behind 23 = .ok (.areturn, 1) := dk_176 (dk_at dksX6_behind_0 23 rfl rfl)
theorem q123 : (Jvm.Cond.initialized "ParityMaze$Spot") ∈ lw_all := lw_g (lw_at lw_m1 36 rfl) rfl
theorem q463 : (Jvm.Cond.selects "ParityMaze$Spot" ({ cls := "java/lang/Object", name := "getClass", desc := "()Ljava/lang/Class;" } : Jvm.MethodName) ({ cls := "java/lang/Object", name := "getClass", desc := "()Ljava/lang/Class;" } : Jvm.MethodName)) ∈ lw_all := lw_g (lw_at lw_m2 136 rfl) rfl
theorem q887 : (Jvm.Cond.instantiable "ParityMaze$Spot" (2 : Nat)) ∈ lw_all := lw_g (lw_at lw_m4 80 rfl) rfl
theorem q889 : (Jvm.Cond.instanceMethod ({ cls := "ParityMaze$Spot", name := "<init>", desc := "(II)V" } : Jvm.MethodName)) ∈ lw_all := lw_g (lw_at lw_m4 82 rfl) rfl
theorem q890 : (Jvm.Cond.code ({ cls := "ParityMaze$Spot", name := "<init>", desc := "(II)V" } : Jvm.MethodName) prog_8_method_1_code (3 : Nat) (Option.none : Option Jvm.ClassFile.FieldType)) ∈ lw_all := lw_g (lw_at lw_m4 83 rfl) rfl
theorem q891 : (Jvm.Cond.methodLink "ParityMaze$Spot" (1 : Nat) ({ cls := "java/lang/Object", name := "<init>", desc := "()V" } : Jvm.MethodName)) ∈ lw_all := lw_g (lw_at lw_m4 84 rfl) rfl
theorem q892 : (Jvm.Cond.fieldLink "ParityMaze$Spot" (7 : Nat) "ParityMaze$Spot" "room" "I") ∈ lw_all := lw_g (lw_at lw_m4 85 rfl) rfl
theorem q894 : (Jvm.Cond.fieldLink "ParityMaze$Spot" (13 : Nat) "ParityMaze$Spot" "parity" "I") ∈ lw_all := lw_g (lw_at lw_m4 87 rfl) rfl
theorem q896 : (Jvm.Cond.laysFinal "ParityMaze$Spot" "ParityMaze$Spot" "room" "I") ∈ lw_all := lw_g (lw_at lw_m4 89 rfl) rfl
theorem q897 : (Jvm.Cond.soleField "ParityMaze$Spot" "room") ∈ lw_all := lw_g (lw_at lw_m4 90 rfl) rfl
theorem q898 : (Jvm.Cond.laysFinal "ParityMaze$Spot" "ParityMaze$Spot" "parity" "I") ∈ lw_all := lw_g (lw_at lw_m4 91 rfl) rfl
theorem q899 : (Jvm.Cond.soleField "ParityMaze$Spot" "parity") ∈ lw_all := lw_g (lw_at lw_m4 92 rfl) rfl
theorem q900 : (Jvm.Cond.superclass "ParityMaze$Spot" "java/lang/Object") ∈ lw_all := lw_g (lw_at lw_m4 93 rfl) rfl
theorem q991 : (Jvm.Cond.selects "ParityMaze$Spot" ({ cls := "java/lang/Object", name := "hashCode", desc := "()I" } : Jvm.MethodName) ({ cls := "ParityMaze$Spot", name := "hashCode", desc := "()I" } : Jvm.MethodName)) ∈ lw_all := lw_g (lw_at lw_m4 184 rfl) rfl
theorem q992 : (Jvm.Cond.instanceMethod ({ cls := "ParityMaze$Spot", name := "hashCode", desc := "()I" } : Jvm.MethodName)) ∈ lw_all := lw_g (lw_at lw_m4 185 rfl) rfl
theorem q993 : (Jvm.Cond.code ({ cls := "ParityMaze$Spot", name := "hashCode", desc := "()I" } : Jvm.MethodName) prog_8_method_3_code (1 : Nat) (Option.some Jvm.ClassFile.FieldType.int)) ∈ lw_all := lw_g (lw_at lw_m4 186 rfl) rfl
theorem q1414 : (Jvm.Cond.selects "ParityMaze$Spot" ({ cls := "java/lang/Object", name := "equals", desc := "(Ljava/lang/Object;)Z" } : Jvm.MethodName) ({ cls := "ParityMaze$Spot", name := "equals", desc := "(Ljava/lang/Object;)Z" } : Jvm.MethodName)) ∈ lw_all := lw_g (lw_at lw_m6 127 rfl) rfl
theorem q1415 : (Jvm.Cond.instanceMethod ({ cls := "ParityMaze$Spot", name := "equals", desc := "(Ljava/lang/Object;)Z" } : Jvm.MethodName)) ∈ lw_all := lw_g (lw_at lw_m6 128 rfl) rfl
theorem q1416 : (Jvm.Cond.code ({ cls := "ParityMaze$Spot", name := "equals", desc := "(Ljava/lang/Object;)Z" } : Jvm.MethodName) prog_8_method_2_code (3 : Nat) (Option.some Jvm.ClassFile.FieldType.boolean)) ∈ lw_all := lw_g (lw_at lw_m6 129 rfl) rfl
theorem q1417 : (Jvm.Cond.classLink "ParityMaze$Spot" (8 : Nat) "ParityMaze$Spot") ∈ lw_all := lw_g (lw_at lw_m6 130 rfl) rfl
theorem q1518 : (Jvm.Cond.instanceMethod ({ cls := "ParityMaze$Spot", name := "after", desc := "(I)LParityMaze$Spot;" } : Jvm.MethodName)) ∈ lw_all := lw_g (lw_at lw_m6 231 rfl) rfl
theorem q1519 : (Jvm.Cond.selects "ParityMaze$Spot" ({ cls := "ParityMaze$Spot", name := "after", desc := "(I)LParityMaze$Spot;" } : Jvm.MethodName) ({ cls := "ParityMaze$Spot", name := "after", desc := "(I)LParityMaze$Spot;" } : Jvm.MethodName)) ∈ lw_all := lw_g (lw_at lw_m6 232 rfl) rfl
theorem q1520 : (Jvm.Cond.code ({ cls := "ParityMaze$Spot", name := "after", desc := "(I)LParityMaze$Spot;" } : Jvm.MethodName) prog_8_method_4_code (2 : Nat) (Option.some (Jvm.ClassFile.FieldType.object "ParityMaze$Spot"))) ∈ lw_all := lw_g (lw_at lw_m6 233 rfl) rfl
theorem q1521 : (Jvm.Cond.methodLink "ParityMaze$Spot" (16 : Nat) ({ cls := "ParityMaze$Spot", name := "<init>", desc := "(II)V" } : Jvm.MethodName)) ∈ lw_all := lw_g (lw_at lw_m6 234 rfl) rfl
theorem q1592 : (Jvm.Cond.instanceMethod ({ cls := "ParityMaze$Spot", name := "behind", desc := "(LParityMaze$Door;I)LParityMaze$Spot;" } : Jvm.MethodName)) ∈ lw_all := lw_g (lw_at lw_m7 65 rfl) rfl
theorem q1593 : (Jvm.Cond.selects "ParityMaze$Spot" ({ cls := "ParityMaze$Spot", name := "behind", desc := "(LParityMaze$Door;I)LParityMaze$Spot;" } : Jvm.MethodName) ({ cls := "ParityMaze$Spot", name := "behind", desc := "(LParityMaze$Door;I)LParityMaze$Spot;" } : Jvm.MethodName)) ∈ lw_all := lw_g (lw_at lw_m7 66 rfl) rfl
theorem q1594 : (Jvm.Cond.code ({ cls := "ParityMaze$Spot", name := "behind", desc := "(LParityMaze$Door;I)LParityMaze$Spot;" } : Jvm.MethodName) prog_8_method_5_code (3 : Nat) (Option.some (Jvm.ClassFile.FieldType.object "ParityMaze$Spot"))) ∈ lw_all := lw_g (lw_at lw_m7 67 rfl) rfl
theorem q1595 : (Jvm.Cond.methodLink "ParityMaze$Spot" (19 : Nat) ({ cls := "ParityMaze$Door", name := "beyond", desc := "(I)I" } : Jvm.MethodName)) ∈ lw_all := lw_g (lw_at lw_m7 68 rfl) rfl
theorem q2864 : (Jvm.Cond.selects "ParityMaze$Spot" ({ cls := "ParityMaze$Spot", name := "hashCode", desc := "()I" } : Jvm.MethodName) ({ cls := "ParityMaze$Spot", name := "hashCode", desc := "()I" } : Jvm.MethodName)) ∈ lw_all := lw_g (lw_at lw_m12 137 rfl) rfl
theorem q2901 : (Jvm.Cond.castable "ParityMaze$Spot" "java/lang/Object") ∈ lw_tbl := lw_at lw_m12 174 rfl
theorem in_X6 : ∀ w ∈ wsX60, w ∈ lw_all := lw_in wsX60 [896, 898] (by decide +kernel) (by decide +kernel)
/-! ParityMaze$Reader -/
set_option maxRecDepth 100000
def RX7 : String := "ParityMaze$Reader"
def TX7 : u_T := fun k => match k with
  | 0 => ("ParityMaze$Reader", "at", "I", false)
  | _ => ("ParityMaze$Reader", "this$0", "LParityMaze;", true)
def tyX7 : Nat → FieldType := fun k => match k with
  | 0 => .int
  | _ => .object "ParityMaze"
abbrev wsX70 : List Cond := u_ws RX7 TX7 2
theorem nmX7 : ∀ a, a < 2 → ∀ b, b < 2 → a ≠ b → (TX7 a).2.1 ≠ (TX7 b).2.1 := by decide +kernel
theorem tyX7_ok : ∀ k, k < 2 → parseFieldDescriptor (TX7 k).2.2.1 = some (tyX7 k) := by decide +kernel
abbrev cX7_init : ByteArray := prog_5_method_1_code
def yX7_init : MethodName := ⟨RX7, "<init>", "(LParityMaze;)V"⟩
def dkwX7_init_0 : List UInt8 := [42, 43, 181, 0, 3, 42, 183, 0, 9, 177]
abbrev dktX7_init_0 : List UInt8 := dkwX7_init_0 ++ []
theorem dksX7_init_0 : cX7_init.data.toList.drop 0 = dktX7_init_0 := by decide +kernel
theorem dX7_init_0 : decode cX7_init 0 = .ok (.aload_n 0, 1) := dk_42 (dk_at dksX7_init_0 0 rfl rfl)
theorem dX7_init_1 : decode cX7_init 1 = .ok (.aload_n 1, 1) := dk_43 (dk_at dksX7_init_0 1 rfl rfl)
theorem dX7_init_2 : decode cX7_init 2 = .ok (.putfield 3, 3) := dk_181 0 3 (dk_at dksX7_init_0 2 rfl rfl)
theorem dX7_init_5 : decode cX7_init 5 = .ok (.aload_n 0, 1) := dk_42 (dk_at dksX7_init_0 5 rfl rfl)
theorem dX7_init_6 : decode cX7_init 6 = .ok (.invokespecial 9, 3) := dk_183 0 9 (dk_at dksX7_init_0 6 rfl rfl)
theorem dX7_init_9 : decode cX7_init 9 = .ok (.return_, 1) := dk_177 (dk_at dksX7_init_0 9 rfl rfl)
abbrev cX7_commands : ByteArray := prog_5_method_11_code
def yX7_commands : MethodName := ⟨RX7, "commands", "()Ljava/util/LinkedList;"⟩
def dkwX7_commands_2 : List UInt8 := [180, 0, 19, 182, 0, 23, 160, 0, 7, 4, 167, 0, 4, 3, 182, 0, 59, 43, 176]
abbrev dktX7_commands_2 : List UInt8 := dkwX7_commands_2 ++ []
def dkwX7_commands_1 : List UInt8 := [153, 0, 14, 43, 42, 182, 0, 112, 182, 0, 116, 167, 255, 239, 42, 42, 180, 0, 15, 42, 180, 0, 3]
abbrev dktX7_commands_1 : List UInt8 := dkwX7_commands_1 ++ dktX7_commands_2
def dkwX7_commands_0 : List UInt8 := [187, 0, 109, 89, 183, 0, 111, 76, 43, 42, 182, 0, 112, 182, 0, 116, 42, 16, 59, 182, 0, 63]
abbrev dktX7_commands_0 : List UInt8 := dkwX7_commands_0 ++ dktX7_commands_1
theorem dksX7_commands_0 : cX7_commands.data.toList.drop 0 = dktX7_commands_0 := by decide +kernel
theorem dksX7_commands_1 : cX7_commands.data.toList.drop 22 = dktX7_commands_1 := dk_seg dksX7_commands_0 22 rfl rfl
theorem dksX7_commands_2 : cX7_commands.data.toList.drop 45 = dktX7_commands_2 := dk_seg dksX7_commands_1 23 rfl rfl
theorem dX7_commands_0 : decode cX7_commands 0 = .ok (.new 109, 3) := dk_187 0 109 (dk_at dksX7_commands_0 0 rfl rfl)
theorem dX7_commands_3 : decode cX7_commands 3 = .ok (.dup, 1) := dk_89 (dk_at dksX7_commands_0 3 rfl rfl)
theorem dX7_commands_4 : decode cX7_commands 4 = .ok (.invokespecial 111, 3) := dk_183 0 111 (dk_at dksX7_commands_0 4 rfl rfl)
theorem dX7_commands_7 : decode cX7_commands 7 = .ok (.astore_n 1, 1) := dk_76 (dk_at dksX7_commands_0 7 rfl rfl)
theorem dX7_commands_8 : decode cX7_commands 8 = .ok (.aload_n 1, 1) := dk_43 (dk_at dksX7_commands_0 8 rfl rfl)
theorem dX7_commands_9 : decode cX7_commands 9 = .ok (.aload_n 0, 1) := dk_42 (dk_at dksX7_commands_0 9 rfl rfl)
theorem dX7_commands_10 : decode cX7_commands 10 = .ok (.invokevirtual 112, 3) := dk_182 0 112 (dk_at dksX7_commands_0 10 rfl rfl)
theorem dX7_commands_13 : decode cX7_commands 13 = .ok (.invokevirtual 116, 3) := dk_182 0 116 (dk_at dksX7_commands_0 13 rfl rfl)
theorem dX7_commands_16 : decode cX7_commands 16 = .ok (.aload_n 0, 1) := dk_42 (dk_at dksX7_commands_0 16 rfl rfl)
theorem dX7_commands_17 : decode cX7_commands 17 = .ok (.bipush 59, 2) := dk_16 59 (dk_at dksX7_commands_0 17 rfl rfl)
theorem dX7_commands_19 : decode cX7_commands 19 = .ok (.invokevirtual 63, 3) := dk_182 0 63 (dk_at dksX7_commands_0 19 rfl rfl)
theorem dX7_commands_22 : decode cX7_commands 22 = .ok (.ifCond .eq 14, 3) := dk_153 0 14 (dk_at dksX7_commands_1 0 rfl rfl)
theorem dX7_commands_25 : decode cX7_commands 25 = .ok (.aload_n 1, 1) := dk_43 (dk_at dksX7_commands_1 3 rfl rfl)
theorem dX7_commands_26 : decode cX7_commands 26 = .ok (.aload_n 0, 1) := dk_42 (dk_at dksX7_commands_1 4 rfl rfl)
theorem dX7_commands_27 : decode cX7_commands 27 = .ok (.invokevirtual 112, 3) := dk_182 0 112 (dk_at dksX7_commands_1 5 rfl rfl)
theorem dX7_commands_30 : decode cX7_commands 30 = .ok (.invokevirtual 116, 3) := dk_182 0 116 (dk_at dksX7_commands_1 8 rfl rfl)
theorem dX7_commands_33 : decode cX7_commands 33 = .ok (.goto (-17), 3) := dk_167 255 239 (dk_at dksX7_commands_1 11 rfl rfl)
theorem dX7_commands_36 : decode cX7_commands 36 = .ok (.aload_n 0, 1) := dk_42 (dk_at dksX7_commands_1 14 rfl rfl)
theorem dX7_commands_37 : decode cX7_commands 37 = .ok (.aload_n 0, 1) := dk_42 (dk_at dksX7_commands_1 15 rfl rfl)
theorem dX7_commands_38 : decode cX7_commands 38 = .ok (.getfield 15, 3) := dk_180 0 15 (dk_at dksX7_commands_1 16 rfl rfl)
theorem dX7_commands_41 : decode cX7_commands 41 = .ok (.aload_n 0, 1) := dk_42 (dk_at dksX7_commands_1 19 rfl rfl)
theorem dX7_commands_42 : decode cX7_commands 42 = .ok (.getfield 3, 3) := dk_180 0 3 (dk_at dksX7_commands_1 20 rfl rfl)
theorem dX7_commands_45 : decode cX7_commands 45 = .ok (.getfield 19, 3) := dk_180 0 19 (dk_at dksX7_commands_2 0 rfl rfl)
theorem dX7_commands_48 : decode cX7_commands 48 = .ok (.invokevirtual 23, 3) := dk_182 0 23 (dk_at dksX7_commands_2 3 rfl rfl)
theorem dX7_commands_51 : decode cX7_commands 51 = .ok (.if_icmp .ne 7, 3) := dk_160 0 7 (dk_at dksX7_commands_2 6 rfl rfl)
theorem dX7_commands_54 : decode cX7_commands 54 = .ok (.iconst 1, 1) := dk_4 (dk_at dksX7_commands_2 9 rfl rfl)
theorem dX7_commands_55 : decode cX7_commands 55 = .ok (.goto 4, 3) := dk_167 0 4 (dk_at dksX7_commands_2 10 rfl rfl)
theorem dX7_commands_58 : decode cX7_commands 58 = .ok (.iconst 0, 1) := dk_3 (dk_at dksX7_commands_2 13 rfl rfl)
theorem dX7_commands_59 : decode cX7_commands 59 = .ok (.invokevirtual 59, 3) := dk_182 0 59 (dk_at dksX7_commands_2 14 rfl rfl)
theorem dX7_commands_62 : decode cX7_commands 62 = .ok (.aload_n 1, 1) := dk_43 (dk_at dksX7_commands_2 17 rfl rfl)
theorem dX7_commands_63 : decode cX7_commands 63 = .ok (.areturn, 1) := dk_176 (dk_at dksX7_commands_2 18 rfl rfl)
abbrev cX7_command : ByteArray := prog_5_method_10_code
def yX7_command : MethodName := ⟨RX7, "command", "()LParityMaze$Command;"⟩
def dkwX7_command_14 : List UInt8 := [187, 0, 98, 89, 43, 4, 188, 10, 89, 3, 42, 5, 182, 0, 67, 79, 183, 0, 100, 176]
abbrev dktX7_command_14 : List UInt8 := dkwX7_command_14 ++ []
def dkwX7_command_13 : List UInt8 := [21, 6, 79, 89, 4, 21, 7, 79, 89, 5, 21, 8, 79, 89, 6, 42, 182, 0, 106, 79, 183, 0, 100, 176]
abbrev dktX7_command_13 : List UInt8 := dkwX7_command_13 ++ dktX7_command_14
def dkwX7_command_12 : List UInt8 := [4, 182, 0, 103, 54, 7, 42, 4, 182, 0, 103, 54, 8, 187, 0, 98, 89, 43, 7, 188, 10, 89, 3]
abbrev dktX7_command_12 : List UInt8 := dkwX7_command_12 ++ dktX7_command_13
def dkwX7_command_11 : List UInt8 := [3, 21, 5, 79, 89, 4, 42, 4, 182, 0, 103, 79, 183, 0, 100, 176, 42, 4, 182, 0, 67, 54, 6, 42]
abbrev dktX7_command_11 : List UInt8 := dkwX7_command_11 ++ dktX7_command_12
def dkwX7_command_10 : List UInt8 := [182, 0, 103, 79, 183, 0, 100, 176, 42, 4, 182, 0, 67, 54, 5, 187, 0, 98, 89, 43, 5, 188, 10, 89]
abbrev dktX7_command_10 : List UInt8 := dkwX7_command_10 ++ dktX7_command_11
def dkwX7_command_9 : List UInt8 := [182, 0, 67, 54, 4, 187, 0, 98, 89, 43, 5, 188, 10, 89, 3, 21, 4, 79, 89, 4, 42, 5]
abbrev dktX7_command_9 : List UInt8 := dkwX7_command_9 ++ dktX7_command_10
def dkwX7_command_8 : List UInt8 := [187, 0, 98, 89, 43, 4, 188, 10, 89, 3, 42, 4, 182, 0, 67, 79, 183, 0, 100, 176, 42, 4]
abbrev dktX7_command_8 : List UInt8 := dkwX7_command_8 ++ dktX7_command_9
def dkwX7_command_7 : List UInt8 := [170, 0, 0, 0, 0, 169, 0, 0, 0, 0, 0, 0, 0, 3, 0, 0, 0, 30, 0, 0, 0, 50, 0, 0, 0, 82, 0, 0, 0, 114]
abbrev dktX7_command_7 : List UInt8 := dkwX7_command_7 ++ dktX7_command_8
def dkwX7_command_6 : List UInt8 := [153, 0, 5, 6, 62, 29]
abbrev dktX7_command_6 : List UInt8 := dkwX7_command_6 ++ dktX7_command_7
def dkwX7_command_5 : List UInt8 := [62, 167, 0, 28, 44, 18, 83, 182, 0, 94, 153, 0, 19, 5, 62, 167, 0, 14, 44, 18, 85, 182, 0, 94]
abbrev dktX7_command_5 : List UInt8 := dkwX7_command_5 ++ dktX7_command_6
def dkwX7_command_4 : List UInt8 := [44, 18, 75, 182, 0, 94, 153, 0, 47, 3, 62, 167, 0, 42, 44, 18, 79, 182, 0, 94, 153, 0, 33, 4]
abbrev dktX7_command_4 : List UInt8 := dkwX7_command_4 ++ dktX7_command_5
def dkwX7_command_3 : List UInt8 := [171, 0, 0, 0, 0, 0, 0, 97, 0, 0, 0, 4, 0, 50, 45, 161, 0, 0, 0, 72, 0, 52, 12, 142, 0, 0, 0, 58, 5, 181, 82, 50, 0, 0, 0, 86, 6, 144, 92, 121, 0, 0, 0, 44]
abbrev dktX7_command_3 : List UInt8 := dkwX7_command_3 ++ dktX7_command_4
def dkwX7_command_2 : List UInt8 := [83, 182, 0, 87, 76, 43, 77, 2, 62, 44, 182, 0, 91]
abbrev dktX7_command_2 : List UInt8 := dkwX7_command_2 ++ dktX7_command_3
def dkwX7_command_1 : List UInt8 := [18, 77, 83, 89, 7, 18, 79, 83, 89, 8, 18, 81, 83, 89, 16, 6, 18, 83, 83, 89, 16, 7, 18, 85]
abbrev dktX7_command_1 : List UInt8 := dkwX7_command_1 ++ dktX7_command_2
def dkwX7_command_0 : List UInt8 := [42, 16, 8, 189, 0, 42, 89, 3, 18, 71, 83, 89, 4, 18, 73, 83, 89, 5, 18, 75, 83, 89, 6]
abbrev dktX7_command_0 : List UInt8 := dkwX7_command_0 ++ dktX7_command_1
theorem dksX7_command_0 : cX7_command.data.toList.drop 0 = dktX7_command_0 := by decide +kernel
theorem dksX7_command_1 : cX7_command.data.toList.drop 23 = dktX7_command_1 := dk_seg dksX7_command_0 23 rfl rfl
theorem dksX7_command_2 : cX7_command.data.toList.drop 47 = dktX7_command_2 := dk_seg dksX7_command_1 24 rfl rfl
theorem dksX7_command_3 : cX7_command.data.toList.drop 60 = dktX7_command_3 := dk_seg dksX7_command_2 13 rfl rfl
theorem dksX7_command_4 : cX7_command.data.toList.drop 104 = dktX7_command_4 := dk_seg dksX7_command_3 44 rfl rfl
theorem dksX7_command_5 : cX7_command.data.toList.drop 128 = dktX7_command_5 := dk_seg dksX7_command_4 24 rfl rfl
theorem dksX7_command_6 : cX7_command.data.toList.drop 152 = dktX7_command_6 := dk_seg dksX7_command_5 24 rfl rfl
theorem dksX7_command_7 : cX7_command.data.toList.drop 158 = dktX7_command_7 := dk_seg dksX7_command_6 6 rfl rfl
theorem dksX7_command_8 : cX7_command.data.toList.drop 188 = dktX7_command_8 := dk_seg dksX7_command_7 30 rfl rfl
theorem dksX7_command_9 : cX7_command.data.toList.drop 210 = dktX7_command_9 := dk_seg dksX7_command_8 22 rfl rfl
theorem dksX7_command_10 : cX7_command.data.toList.drop 232 = dktX7_command_10 := dk_seg dksX7_command_9 22 rfl rfl
theorem dksX7_command_11 : cX7_command.data.toList.drop 256 = dktX7_command_11 := dk_seg dksX7_command_10 24 rfl rfl
theorem dksX7_command_12 : cX7_command.data.toList.drop 280 = dktX7_command_12 := dk_seg dksX7_command_11 24 rfl rfl
theorem dksX7_command_13 : cX7_command.data.toList.drop 303 = dktX7_command_13 := dk_seg dksX7_command_12 23 rfl rfl
theorem dksX7_command_14 : cX7_command.data.toList.drop 327 = dktX7_command_14 := dk_seg dksX7_command_13 24 rfl rfl
theorem dX7_command_0 : decode cX7_command 0 = .ok (.aload_n 0, 1) := dk_42 (dk_at dksX7_command_0 0 rfl rfl)
theorem dX7_command_1 : decode cX7_command 1 = .ok (.bipush 8, 2) := dk_16 8 (dk_at dksX7_command_0 1 rfl rfl)
theorem dX7_command_3 : decode cX7_command 3 = .ok (.anewarray 42, 3) := dk_189 0 42 (dk_at dksX7_command_0 3 rfl rfl)
theorem dX7_command_6 : decode cX7_command 6 = .ok (.dup, 1) := dk_89 (dk_at dksX7_command_0 6 rfl rfl)
theorem dX7_command_7 : decode cX7_command 7 = .ok (.iconst 0, 1) := dk_3 (dk_at dksX7_command_0 7 rfl rfl)
theorem dX7_command_8 : decode cX7_command 8 = .ok (.ldc 71, 2) := dk_18 71 (dk_at dksX7_command_0 8 rfl rfl)
theorem dX7_command_10 : decode cX7_command 10 = .ok (.aastore, 1) := dk_83 (dk_at dksX7_command_0 10 rfl rfl)
theorem dX7_command_11 : decode cX7_command 11 = .ok (.dup, 1) := dk_89 (dk_at dksX7_command_0 11 rfl rfl)
theorem dX7_command_12 : decode cX7_command 12 = .ok (.iconst 1, 1) := dk_4 (dk_at dksX7_command_0 12 rfl rfl)
theorem dX7_command_13 : decode cX7_command 13 = .ok (.ldc 73, 2) := dk_18 73 (dk_at dksX7_command_0 13 rfl rfl)
theorem dX7_command_15 : decode cX7_command 15 = .ok (.aastore, 1) := dk_83 (dk_at dksX7_command_0 15 rfl rfl)
theorem dX7_command_16 : decode cX7_command 16 = .ok (.dup, 1) := dk_89 (dk_at dksX7_command_0 16 rfl rfl)
theorem dX7_command_17 : decode cX7_command 17 = .ok (.iconst 2, 1) := dk_5 (dk_at dksX7_command_0 17 rfl rfl)
theorem dX7_command_18 : decode cX7_command 18 = .ok (.ldc 75, 2) := dk_18 75 (dk_at dksX7_command_0 18 rfl rfl)
theorem dX7_command_20 : decode cX7_command 20 = .ok (.aastore, 1) := dk_83 (dk_at dksX7_command_0 20 rfl rfl)
theorem dX7_command_21 : decode cX7_command 21 = .ok (.dup, 1) := dk_89 (dk_at dksX7_command_0 21 rfl rfl)
theorem dX7_command_22 : decode cX7_command 22 = .ok (.iconst 3, 1) := dk_6 (dk_at dksX7_command_0 22 rfl rfl)
theorem dX7_command_23 : decode cX7_command 23 = .ok (.ldc 77, 2) := dk_18 77 (dk_at dksX7_command_1 0 rfl rfl)
theorem dX7_command_25 : decode cX7_command 25 = .ok (.aastore, 1) := dk_83 (dk_at dksX7_command_1 2 rfl rfl)
theorem dX7_command_26 : decode cX7_command 26 = .ok (.dup, 1) := dk_89 (dk_at dksX7_command_1 3 rfl rfl)
theorem dX7_command_27 : decode cX7_command 27 = .ok (.iconst 4, 1) := dk_7 (dk_at dksX7_command_1 4 rfl rfl)
theorem dX7_command_28 : decode cX7_command 28 = .ok (.ldc 79, 2) := dk_18 79 (dk_at dksX7_command_1 5 rfl rfl)
theorem dX7_command_30 : decode cX7_command 30 = .ok (.aastore, 1) := dk_83 (dk_at dksX7_command_1 7 rfl rfl)
theorem dX7_command_31 : decode cX7_command 31 = .ok (.dup, 1) := dk_89 (dk_at dksX7_command_1 8 rfl rfl)
theorem dX7_command_32 : decode cX7_command 32 = .ok (.iconst 5, 1) := dk_8 (dk_at dksX7_command_1 9 rfl rfl)
theorem dX7_command_33 : decode cX7_command 33 = .ok (.ldc 81, 2) := dk_18 81 (dk_at dksX7_command_1 10 rfl rfl)
theorem dX7_command_35 : decode cX7_command 35 = .ok (.aastore, 1) := dk_83 (dk_at dksX7_command_1 12 rfl rfl)
theorem dX7_command_36 : decode cX7_command 36 = .ok (.dup, 1) := dk_89 (dk_at dksX7_command_1 13 rfl rfl)
theorem dX7_command_37 : decode cX7_command 37 = .ok (.bipush 6, 2) := dk_16 6 (dk_at dksX7_command_1 14 rfl rfl)
theorem dX7_command_39 : decode cX7_command 39 = .ok (.ldc 83, 2) := dk_18 83 (dk_at dksX7_command_1 16 rfl rfl)
theorem dX7_command_41 : decode cX7_command 41 = .ok (.aastore, 1) := dk_83 (dk_at dksX7_command_1 18 rfl rfl)
theorem dX7_command_42 : decode cX7_command 42 = .ok (.dup, 1) := dk_89 (dk_at dksX7_command_1 19 rfl rfl)
theorem dX7_command_43 : decode cX7_command 43 = .ok (.bipush 7, 2) := dk_16 7 (dk_at dksX7_command_1 20 rfl rfl)
theorem dX7_command_45 : decode cX7_command 45 = .ok (.ldc 85, 2) := dk_18 85 (dk_at dksX7_command_1 22 rfl rfl)
theorem dX7_command_47 : decode cX7_command 47 = .ok (.aastore, 1) := dk_83 (dk_at dksX7_command_2 0 rfl rfl)
theorem dX7_command_48 : decode cX7_command 48 = .ok (.invokevirtual 87, 3) := dk_182 0 87 (dk_at dksX7_command_2 1 rfl rfl)
theorem dX7_command_51 : decode cX7_command 51 = .ok (.astore_n 1, 1) := dk_76 (dk_at dksX7_command_2 4 rfl rfl)
theorem dX7_command_52 : decode cX7_command 52 = .ok (.aload_n 1, 1) := dk_43 (dk_at dksX7_command_2 5 rfl rfl)
theorem dX7_command_53 : decode cX7_command 53 = .ok (.astore_n 2, 1) := dk_77 (dk_at dksX7_command_2 6 rfl rfl)
theorem dX7_command_54 : decode cX7_command 54 = .ok (.iconst (-1), 1) := dk_2 (dk_at dksX7_command_2 7 rfl rfl)
theorem dX7_command_55 : decode cX7_command 55 = .ok (.istore_n 3, 1) := dk_62 (dk_at dksX7_command_2 8 rfl rfl)
theorem dX7_command_56 : decode cX7_command 56 = .ok (.aload_n 2, 1) := dk_44 (dk_at dksX7_command_2 9 rfl rfl)
theorem dX7_command_57 : decode cX7_command 57 = .ok (.invokevirtual 91, 3) := dk_182 0 91 (dk_at dksX7_command_2 10 rfl rfl)
theorem dX7_command_60 : decode cX7_command 60 = .ok (.lookupswitch 97 #[(3288481, 72), (3411086, 58), (95769138, 86), (110124153, 44)], 44) := by decide +kernel
theorem dX7_command_104 : decode cX7_command 104 = .ok (.aload_n 2, 1) := dk_44 (dk_at dksX7_command_4 0 rfl rfl)
theorem dX7_command_105 : decode cX7_command 105 = .ok (.ldc 75, 2) := dk_18 75 (dk_at dksX7_command_4 1 rfl rfl)
theorem dX7_command_107 : decode cX7_command 107 = .ok (.invokevirtual 94, 3) := dk_182 0 94 (dk_at dksX7_command_4 3 rfl rfl)
theorem dX7_command_110 : decode cX7_command 110 = .ok (.ifCond .eq 47, 3) := dk_153 0 47 (dk_at dksX7_command_4 6 rfl rfl)
theorem dX7_command_113 : decode cX7_command 113 = .ok (.iconst 0, 1) := dk_3 (dk_at dksX7_command_4 9 rfl rfl)
theorem dX7_command_114 : decode cX7_command 114 = .ok (.istore_n 3, 1) := dk_62 (dk_at dksX7_command_4 10 rfl rfl)
theorem dX7_command_115 : decode cX7_command 115 = .ok (.goto 42, 3) := dk_167 0 42 (dk_at dksX7_command_4 11 rfl rfl)
theorem dX7_command_118 : decode cX7_command 118 = .ok (.aload_n 2, 1) := dk_44 (dk_at dksX7_command_4 14 rfl rfl)
theorem dX7_command_119 : decode cX7_command 119 = .ok (.ldc 79, 2) := dk_18 79 (dk_at dksX7_command_4 15 rfl rfl)
theorem dX7_command_121 : decode cX7_command 121 = .ok (.invokevirtual 94, 3) := dk_182 0 94 (dk_at dksX7_command_4 17 rfl rfl)
theorem dX7_command_124 : decode cX7_command 124 = .ok (.ifCond .eq 33, 3) := dk_153 0 33 (dk_at dksX7_command_4 20 rfl rfl)
theorem dX7_command_127 : decode cX7_command 127 = .ok (.iconst 1, 1) := dk_4 (dk_at dksX7_command_4 23 rfl rfl)
theorem dX7_command_128 : decode cX7_command 128 = .ok (.istore_n 3, 1) := dk_62 (dk_at dksX7_command_5 0 rfl rfl)
theorem dX7_command_129 : decode cX7_command 129 = .ok (.goto 28, 3) := dk_167 0 28 (dk_at dksX7_command_5 1 rfl rfl)
theorem dX7_command_132 : decode cX7_command 132 = .ok (.aload_n 2, 1) := dk_44 (dk_at dksX7_command_5 4 rfl rfl)
theorem dX7_command_133 : decode cX7_command 133 = .ok (.ldc 83, 2) := dk_18 83 (dk_at dksX7_command_5 5 rfl rfl)
theorem dX7_command_135 : decode cX7_command 135 = .ok (.invokevirtual 94, 3) := dk_182 0 94 (dk_at dksX7_command_5 7 rfl rfl)
theorem dX7_command_138 : decode cX7_command 138 = .ok (.ifCond .eq 19, 3) := dk_153 0 19 (dk_at dksX7_command_5 10 rfl rfl)
theorem dX7_command_141 : decode cX7_command 141 = .ok (.iconst 2, 1) := dk_5 (dk_at dksX7_command_5 13 rfl rfl)
theorem dX7_command_142 : decode cX7_command 142 = .ok (.istore_n 3, 1) := dk_62 (dk_at dksX7_command_5 14 rfl rfl)
theorem dX7_command_143 : decode cX7_command 143 = .ok (.goto 14, 3) := dk_167 0 14 (dk_at dksX7_command_5 15 rfl rfl)
theorem dX7_command_146 : decode cX7_command 146 = .ok (.aload_n 2, 1) := dk_44 (dk_at dksX7_command_5 18 rfl rfl)
theorem dX7_command_147 : decode cX7_command 147 = .ok (.ldc 85, 2) := dk_18 85 (dk_at dksX7_command_5 19 rfl rfl)
theorem dX7_command_149 : decode cX7_command 149 = .ok (.invokevirtual 94, 3) := dk_182 0 94 (dk_at dksX7_command_5 21 rfl rfl)
theorem dX7_command_152 : decode cX7_command 152 = .ok (.ifCond .eq 5, 3) := dk_153 0 5 (dk_at dksX7_command_6 0 rfl rfl)
theorem dX7_command_155 : decode cX7_command 155 = .ok (.iconst 3, 1) := dk_6 (dk_at dksX7_command_6 3 rfl rfl)
theorem dX7_command_156 : decode cX7_command 156 = .ok (.istore_n 3, 1) := dk_62 (dk_at dksX7_command_6 4 rfl rfl)
theorem dX7_command_157 : decode cX7_command 157 = .ok (.iload_n 3, 1) := dk_29 (dk_at dksX7_command_6 5 rfl rfl)
theorem dX7_command_158 : decode cX7_command 158 = .ok (.tableswitch 169 0 3 #[30, 50, 82, 114], 30) := by decide +kernel
theorem dX7_command_188 : decode cX7_command 188 = .ok (.new 98, 3) := dk_187 0 98 (dk_at dksX7_command_8 0 rfl rfl)
theorem dX7_command_191 : decode cX7_command 191 = .ok (.dup, 1) := dk_89 (dk_at dksX7_command_8 3 rfl rfl)
theorem dX7_command_192 : decode cX7_command 192 = .ok (.aload_n 1, 1) := dk_43 (dk_at dksX7_command_8 4 rfl rfl)
theorem dX7_command_193 : decode cX7_command 193 = .ok (.iconst 1, 1) := dk_4 (dk_at dksX7_command_8 5 rfl rfl)
theorem dX7_command_194 : decode cX7_command 194 = .ok (.newarray .int, 2) := dk_188_10 (dk_at dksX7_command_8 6 rfl rfl)
theorem dX7_command_196 : decode cX7_command 196 = .ok (.dup, 1) := dk_89 (dk_at dksX7_command_8 8 rfl rfl)
theorem dX7_command_197 : decode cX7_command 197 = .ok (.iconst 0, 1) := dk_3 (dk_at dksX7_command_8 9 rfl rfl)
theorem dX7_command_198 : decode cX7_command 198 = .ok (.aload_n 0, 1) := dk_42 (dk_at dksX7_command_8 10 rfl rfl)
theorem dX7_command_199 : decode cX7_command 199 = .ok (.iconst 1, 1) := dk_4 (dk_at dksX7_command_8 11 rfl rfl)
theorem dX7_command_200 : decode cX7_command 200 = .ok (.invokevirtual 67, 3) := dk_182 0 67 (dk_at dksX7_command_8 12 rfl rfl)
theorem dX7_command_203 : decode cX7_command 203 = .ok (.iastore, 1) := dk_79 (dk_at dksX7_command_8 15 rfl rfl)
theorem dX7_command_204 : decode cX7_command 204 = .ok (.invokespecial 100, 3) := dk_183 0 100 (dk_at dksX7_command_8 16 rfl rfl)
theorem dX7_command_207 : decode cX7_command 207 = .ok (.areturn, 1) := dk_176 (dk_at dksX7_command_8 19 rfl rfl)
theorem dX7_command_208 : decode cX7_command 208 = .ok (.aload_n 0, 1) := dk_42 (dk_at dksX7_command_8 20 rfl rfl)
theorem dX7_command_209 : decode cX7_command 209 = .ok (.iconst 1, 1) := dk_4 (dk_at dksX7_command_8 21 rfl rfl)
theorem dX7_command_210 : decode cX7_command 210 = .ok (.invokevirtual 67, 3) := dk_182 0 67 (dk_at dksX7_command_9 0 rfl rfl)
theorem dX7_command_213 : decode cX7_command 213 = .ok (.istore 4, 2) := dk_54 4 (dk_at dksX7_command_9 3 rfl rfl)
theorem dX7_command_215 : decode cX7_command 215 = .ok (.new 98, 3) := dk_187 0 98 (dk_at dksX7_command_9 5 rfl rfl)
theorem dX7_command_218 : decode cX7_command 218 = .ok (.dup, 1) := dk_89 (dk_at dksX7_command_9 8 rfl rfl)
theorem dX7_command_219 : decode cX7_command 219 = .ok (.aload_n 1, 1) := dk_43 (dk_at dksX7_command_9 9 rfl rfl)
theorem dX7_command_220 : decode cX7_command 220 = .ok (.iconst 2, 1) := dk_5 (dk_at dksX7_command_9 10 rfl rfl)
theorem dX7_command_221 : decode cX7_command 221 = .ok (.newarray .int, 2) := dk_188_10 (dk_at dksX7_command_9 11 rfl rfl)
theorem dX7_command_223 : decode cX7_command 223 = .ok (.dup, 1) := dk_89 (dk_at dksX7_command_9 13 rfl rfl)
theorem dX7_command_224 : decode cX7_command 224 = .ok (.iconst 0, 1) := dk_3 (dk_at dksX7_command_9 14 rfl rfl)
theorem dX7_command_225 : decode cX7_command 225 = .ok (.iload 4, 2) := dk_21 4 (dk_at dksX7_command_9 15 rfl rfl)
theorem dX7_command_227 : decode cX7_command 227 = .ok (.iastore, 1) := dk_79 (dk_at dksX7_command_9 17 rfl rfl)
theorem dX7_command_228 : decode cX7_command 228 = .ok (.dup, 1) := dk_89 (dk_at dksX7_command_9 18 rfl rfl)
theorem dX7_command_229 : decode cX7_command 229 = .ok (.iconst 1, 1) := dk_4 (dk_at dksX7_command_9 19 rfl rfl)
theorem dX7_command_230 : decode cX7_command 230 = .ok (.aload_n 0, 1) := dk_42 (dk_at dksX7_command_9 20 rfl rfl)
theorem dX7_command_231 : decode cX7_command 231 = .ok (.iconst 2, 1) := dk_5 (dk_at dksX7_command_9 21 rfl rfl)
theorem dX7_command_232 : decode cX7_command 232 = .ok (.invokevirtual 103, 3) := dk_182 0 103 (dk_at dksX7_command_10 0 rfl rfl)
theorem dX7_command_235 : decode cX7_command 235 = .ok (.iastore, 1) := dk_79 (dk_at dksX7_command_10 3 rfl rfl)
theorem dX7_command_236 : decode cX7_command 236 = .ok (.invokespecial 100, 3) := dk_183 0 100 (dk_at dksX7_command_10 4 rfl rfl)
theorem dX7_command_239 : decode cX7_command 239 = .ok (.areturn, 1) := dk_176 (dk_at dksX7_command_10 7 rfl rfl)
theorem dX7_command_240 : decode cX7_command 240 = .ok (.aload_n 0, 1) := dk_42 (dk_at dksX7_command_10 8 rfl rfl)
theorem dX7_command_241 : decode cX7_command 241 = .ok (.iconst 1, 1) := dk_4 (dk_at dksX7_command_10 9 rfl rfl)
theorem dX7_command_242 : decode cX7_command 242 = .ok (.invokevirtual 67, 3) := dk_182 0 67 (dk_at dksX7_command_10 10 rfl rfl)
theorem dX7_command_245 : decode cX7_command 245 = .ok (.istore 5, 2) := dk_54 5 (dk_at dksX7_command_10 13 rfl rfl)
theorem dX7_command_247 : decode cX7_command 247 = .ok (.new 98, 3) := dk_187 0 98 (dk_at dksX7_command_10 15 rfl rfl)
theorem dX7_command_250 : decode cX7_command 250 = .ok (.dup, 1) := dk_89 (dk_at dksX7_command_10 18 rfl rfl)
theorem dX7_command_251 : decode cX7_command 251 = .ok (.aload_n 1, 1) := dk_43 (dk_at dksX7_command_10 19 rfl rfl)
theorem dX7_command_252 : decode cX7_command 252 = .ok (.iconst 2, 1) := dk_5 (dk_at dksX7_command_10 20 rfl rfl)
theorem dX7_command_253 : decode cX7_command 253 = .ok (.newarray .int, 2) := dk_188_10 (dk_at dksX7_command_10 21 rfl rfl)
theorem dX7_command_255 : decode cX7_command 255 = .ok (.dup, 1) := dk_89 (dk_at dksX7_command_10 23 rfl rfl)
theorem dX7_command_256 : decode cX7_command 256 = .ok (.iconst 0, 1) := dk_3 (dk_at dksX7_command_11 0 rfl rfl)
theorem dX7_command_257 : decode cX7_command 257 = .ok (.iload 5, 2) := dk_21 5 (dk_at dksX7_command_11 1 rfl rfl)
theorem dX7_command_259 : decode cX7_command 259 = .ok (.iastore, 1) := dk_79 (dk_at dksX7_command_11 3 rfl rfl)
theorem dX7_command_260 : decode cX7_command 260 = .ok (.dup, 1) := dk_89 (dk_at dksX7_command_11 4 rfl rfl)
theorem dX7_command_261 : decode cX7_command 261 = .ok (.iconst 1, 1) := dk_4 (dk_at dksX7_command_11 5 rfl rfl)
theorem dX7_command_262 : decode cX7_command 262 = .ok (.aload_n 0, 1) := dk_42 (dk_at dksX7_command_11 6 rfl rfl)
theorem dX7_command_263 : decode cX7_command 263 = .ok (.iconst 1, 1) := dk_4 (dk_at dksX7_command_11 7 rfl rfl)
theorem dX7_command_264 : decode cX7_command 264 = .ok (.invokevirtual 103, 3) := dk_182 0 103 (dk_at dksX7_command_11 8 rfl rfl)
theorem dX7_command_267 : decode cX7_command 267 = .ok (.iastore, 1) := dk_79 (dk_at dksX7_command_11 11 rfl rfl)
theorem dX7_command_268 : decode cX7_command 268 = .ok (.invokespecial 100, 3) := dk_183 0 100 (dk_at dksX7_command_11 12 rfl rfl)
theorem dX7_command_271 : decode cX7_command 271 = .ok (.areturn, 1) := dk_176 (dk_at dksX7_command_11 15 rfl rfl)
theorem dX7_command_272 : decode cX7_command 272 = .ok (.aload_n 0, 1) := dk_42 (dk_at dksX7_command_11 16 rfl rfl)
theorem dX7_command_273 : decode cX7_command 273 = .ok (.iconst 1, 1) := dk_4 (dk_at dksX7_command_11 17 rfl rfl)
theorem dX7_command_274 : decode cX7_command 274 = .ok (.invokevirtual 67, 3) := dk_182 0 67 (dk_at dksX7_command_11 18 rfl rfl)
theorem dX7_command_277 : decode cX7_command 277 = .ok (.istore 6, 2) := dk_54 6 (dk_at dksX7_command_11 21 rfl rfl)
theorem dX7_command_279 : decode cX7_command 279 = .ok (.aload_n 0, 1) := dk_42 (dk_at dksX7_command_11 23 rfl rfl)
theorem dX7_command_280 : decode cX7_command 280 = .ok (.iconst 1, 1) := dk_4 (dk_at dksX7_command_12 0 rfl rfl)
theorem dX7_command_281 : decode cX7_command 281 = .ok (.invokevirtual 103, 3) := dk_182 0 103 (dk_at dksX7_command_12 1 rfl rfl)
theorem dX7_command_284 : decode cX7_command 284 = .ok (.istore 7, 2) := dk_54 7 (dk_at dksX7_command_12 4 rfl rfl)
theorem dX7_command_286 : decode cX7_command 286 = .ok (.aload_n 0, 1) := dk_42 (dk_at dksX7_command_12 6 rfl rfl)
theorem dX7_command_287 : decode cX7_command 287 = .ok (.iconst 1, 1) := dk_4 (dk_at dksX7_command_12 7 rfl rfl)
theorem dX7_command_288 : decode cX7_command 288 = .ok (.invokevirtual 103, 3) := dk_182 0 103 (dk_at dksX7_command_12 8 rfl rfl)
theorem dX7_command_291 : decode cX7_command 291 = .ok (.istore 8, 2) := dk_54 8 (dk_at dksX7_command_12 11 rfl rfl)
theorem dX7_command_293 : decode cX7_command 293 = .ok (.new 98, 3) := dk_187 0 98 (dk_at dksX7_command_12 13 rfl rfl)
theorem dX7_command_296 : decode cX7_command 296 = .ok (.dup, 1) := dk_89 (dk_at dksX7_command_12 16 rfl rfl)
theorem dX7_command_297 : decode cX7_command 297 = .ok (.aload_n 1, 1) := dk_43 (dk_at dksX7_command_12 17 rfl rfl)
theorem dX7_command_298 : decode cX7_command 298 = .ok (.iconst 4, 1) := dk_7 (dk_at dksX7_command_12 18 rfl rfl)
theorem dX7_command_299 : decode cX7_command 299 = .ok (.newarray .int, 2) := dk_188_10 (dk_at dksX7_command_12 19 rfl rfl)
theorem dX7_command_301 : decode cX7_command 301 = .ok (.dup, 1) := dk_89 (dk_at dksX7_command_12 21 rfl rfl)
theorem dX7_command_302 : decode cX7_command 302 = .ok (.iconst 0, 1) := dk_3 (dk_at dksX7_command_12 22 rfl rfl)
theorem dX7_command_303 : decode cX7_command 303 = .ok (.iload 6, 2) := dk_21 6 (dk_at dksX7_command_13 0 rfl rfl)
theorem dX7_command_305 : decode cX7_command 305 = .ok (.iastore, 1) := dk_79 (dk_at dksX7_command_13 2 rfl rfl)
theorem dX7_command_306 : decode cX7_command 306 = .ok (.dup, 1) := dk_89 (dk_at dksX7_command_13 3 rfl rfl)
theorem dX7_command_307 : decode cX7_command 307 = .ok (.iconst 1, 1) := dk_4 (dk_at dksX7_command_13 4 rfl rfl)
theorem dX7_command_308 : decode cX7_command 308 = .ok (.iload 7, 2) := dk_21 7 (dk_at dksX7_command_13 5 rfl rfl)
theorem dX7_command_310 : decode cX7_command 310 = .ok (.iastore, 1) := dk_79 (dk_at dksX7_command_13 7 rfl rfl)
theorem dX7_command_311 : decode cX7_command 311 = .ok (.dup, 1) := dk_89 (dk_at dksX7_command_13 8 rfl rfl)
theorem dX7_command_312 : decode cX7_command 312 = .ok (.iconst 2, 1) := dk_5 (dk_at dksX7_command_13 9 rfl rfl)
theorem dX7_command_313 : decode cX7_command 313 = .ok (.iload 8, 2) := dk_21 8 (dk_at dksX7_command_13 10 rfl rfl)
theorem dX7_command_315 : decode cX7_command 315 = .ok (.iastore, 1) := dk_79 (dk_at dksX7_command_13 12 rfl rfl)
theorem dX7_command_316 : decode cX7_command 316 = .ok (.dup, 1) := dk_89 (dk_at dksX7_command_13 13 rfl rfl)
theorem dX7_command_317 : decode cX7_command 317 = .ok (.iconst 3, 1) := dk_6 (dk_at dksX7_command_13 14 rfl rfl)
theorem dX7_command_318 : decode cX7_command 318 = .ok (.aload_n 0, 1) := dk_42 (dk_at dksX7_command_13 15 rfl rfl)
theorem dX7_command_319 : decode cX7_command 319 = .ok (.invokevirtual 106, 3) := dk_182 0 106 (dk_at dksX7_command_13 16 rfl rfl)
theorem dX7_command_322 : decode cX7_command 322 = .ok (.iastore, 1) := dk_79 (dk_at dksX7_command_13 19 rfl rfl)
theorem dX7_command_323 : decode cX7_command 323 = .ok (.invokespecial 100, 3) := dk_183 0 100 (dk_at dksX7_command_13 20 rfl rfl)
theorem dX7_command_326 : decode cX7_command 326 = .ok (.areturn, 1) := dk_176 (dk_at dksX7_command_13 23 rfl rfl)
theorem dX7_command_327 : decode cX7_command 327 = .ok (.new 98, 3) := dk_187 0 98 (dk_at dksX7_command_14 0 rfl rfl)
theorem dX7_command_330 : decode cX7_command 330 = .ok (.dup, 1) := dk_89 (dk_at dksX7_command_14 3 rfl rfl)
theorem dX7_command_331 : decode cX7_command 331 = .ok (.aload_n 1, 1) := dk_43 (dk_at dksX7_command_14 4 rfl rfl)
theorem dX7_command_332 : decode cX7_command 332 = .ok (.iconst 1, 1) := dk_4 (dk_at dksX7_command_14 5 rfl rfl)
theorem dX7_command_333 : decode cX7_command 333 = .ok (.newarray .int, 2) := dk_188_10 (dk_at dksX7_command_14 6 rfl rfl)
theorem dX7_command_335 : decode cX7_command 335 = .ok (.dup, 1) := dk_89 (dk_at dksX7_command_14 8 rfl rfl)
theorem dX7_command_336 : decode cX7_command 336 = .ok (.iconst 0, 1) := dk_3 (dk_at dksX7_command_14 9 rfl rfl)
theorem dX7_command_337 : decode cX7_command 337 = .ok (.aload_n 0, 1) := dk_42 (dk_at dksX7_command_14 10 rfl rfl)
theorem dX7_command_338 : decode cX7_command 338 = .ok (.iconst 2, 1) := dk_5 (dk_at dksX7_command_14 11 rfl rfl)
theorem dX7_command_339 : decode cX7_command 339 = .ok (.invokevirtual 67, 3) := dk_182 0 67 (dk_at dksX7_command_14 12 rfl rfl)
theorem dX7_command_342 : decode cX7_command 342 = .ok (.iastore, 1) := dk_79 (dk_at dksX7_command_14 15 rfl rfl)
theorem dX7_command_343 : decode cX7_command 343 = .ok (.invokespecial 100, 3) := dk_183 0 100 (dk_at dksX7_command_14 16 rfl rfl)
theorem dX7_command_346 : decode cX7_command 346 = .ok (.areturn, 1) := dk_176 (dk_at dksX7_command_14 19 rfl rfl)
abbrev cX7_word : ByteArray := prog_5_method_6_code
def yX7_word : MethodName := ⟨RX7, "word", "([Ljava/lang/String;)Ljava/lang/String;"⟩
def dkwX7_word_3 : List UInt8 := [187, 0, 33, 89, 42, 180, 0, 15, 28, 96, 183, 0, 35, 191]
abbrev dktX7_word_3 : List UInt8 := dkwX7_word_3 ++ []
def dkwX7_word_2 : List UInt8 := [21, 7, 96, 181, 0, 15, 25, 6, 176, 28, 21, 7, 184, 0, 49, 61, 132, 5, 1, 167, 255, 201]
abbrev dktX7_word_2 : List UInt8 := dkwX7_word_2 ++ dktX7_word_3
def dkwX7_word_1 : List UInt8 := [42, 25, 6, 182, 0, 45, 54, 7, 21, 7, 25, 6, 182, 0, 41, 160, 0, 17, 42, 89, 180, 0, 15]
abbrev dktX7_word_1 : List UInt8 := dkwX7_word_1 ++ dktX7_word_2
def dkwX7_word_0 : List UInt8 := [3, 61, 43, 78, 45, 190, 54, 4, 3, 54, 5, 21, 5, 21, 4, 162, 0, 54, 45, 21, 5, 50, 58, 6]
abbrev dktX7_word_0 : List UInt8 := dkwX7_word_0 ++ dktX7_word_1
theorem dksX7_word_0 : cX7_word.data.toList.drop 0 = dktX7_word_0 := by decide +kernel
theorem dksX7_word_1 : cX7_word.data.toList.drop 24 = dktX7_word_1 := dk_seg dksX7_word_0 24 rfl rfl
theorem dksX7_word_2 : cX7_word.data.toList.drop 47 = dktX7_word_2 := dk_seg dksX7_word_1 23 rfl rfl
theorem dksX7_word_3 : cX7_word.data.toList.drop 69 = dktX7_word_3 := dk_seg dksX7_word_2 22 rfl rfl
theorem dX7_word_0 : decode cX7_word 0 = .ok (.iconst 0, 1) := dk_3 (dk_at dksX7_word_0 0 rfl rfl)
theorem dX7_word_1 : decode cX7_word 1 = .ok (.istore_n 2, 1) := dk_61 (dk_at dksX7_word_0 1 rfl rfl)
theorem dX7_word_2 : decode cX7_word 2 = .ok (.aload_n 1, 1) := dk_43 (dk_at dksX7_word_0 2 rfl rfl)
theorem dX7_word_3 : decode cX7_word 3 = .ok (.astore_n 3, 1) := dk_78 (dk_at dksX7_word_0 3 rfl rfl)
theorem dX7_word_4 : decode cX7_word 4 = .ok (.aload_n 3, 1) := dk_45 (dk_at dksX7_word_0 4 rfl rfl)
theorem dX7_word_5 : decode cX7_word 5 = .ok (.arraylength, 1) := dk_190 (dk_at dksX7_word_0 5 rfl rfl)
theorem dX7_word_6 : decode cX7_word 6 = .ok (.istore 4, 2) := dk_54 4 (dk_at dksX7_word_0 6 rfl rfl)
theorem dX7_word_8 : decode cX7_word 8 = .ok (.iconst 0, 1) := dk_3 (dk_at dksX7_word_0 8 rfl rfl)
theorem dX7_word_9 : decode cX7_word 9 = .ok (.istore 5, 2) := dk_54 5 (dk_at dksX7_word_0 9 rfl rfl)
theorem dX7_word_11 : decode cX7_word 11 = .ok (.iload 5, 2) := dk_21 5 (dk_at dksX7_word_0 11 rfl rfl)
theorem dX7_word_13 : decode cX7_word 13 = .ok (.iload 4, 2) := dk_21 4 (dk_at dksX7_word_0 13 rfl rfl)
theorem dX7_word_15 : decode cX7_word 15 = .ok (.if_icmp .ge 54, 3) := dk_162 0 54 (dk_at dksX7_word_0 15 rfl rfl)
theorem dX7_word_18 : decode cX7_word 18 = .ok (.aload_n 3, 1) := dk_45 (dk_at dksX7_word_0 18 rfl rfl)
theorem dX7_word_19 : decode cX7_word 19 = .ok (.iload 5, 2) := dk_21 5 (dk_at dksX7_word_0 19 rfl rfl)
theorem dX7_word_21 : decode cX7_word 21 = .ok (.aaload, 1) := dk_50 (dk_at dksX7_word_0 21 rfl rfl)
theorem dX7_word_22 : decode cX7_word 22 = .ok (.astore 6, 2) := dk_58 6 (dk_at dksX7_word_0 22 rfl rfl)
theorem dX7_word_24 : decode cX7_word 24 = .ok (.aload_n 0, 1) := dk_42 (dk_at dksX7_word_1 0 rfl rfl)
theorem dX7_word_25 : decode cX7_word 25 = .ok (.aload 6, 2) := dk_25 6 (dk_at dksX7_word_1 1 rfl rfl)
theorem dX7_word_27 : decode cX7_word 27 = .ok (.invokevirtual 45, 3) := dk_182 0 45 (dk_at dksX7_word_1 3 rfl rfl)
theorem dX7_word_30 : decode cX7_word 30 = .ok (.istore 7, 2) := dk_54 7 (dk_at dksX7_word_1 6 rfl rfl)
theorem dX7_word_32 : decode cX7_word 32 = .ok (.iload 7, 2) := dk_21 7 (dk_at dksX7_word_1 8 rfl rfl)
theorem dX7_word_34 : decode cX7_word 34 = .ok (.aload 6, 2) := dk_25 6 (dk_at dksX7_word_1 10 rfl rfl)
theorem dX7_word_36 : decode cX7_word 36 = .ok (.invokevirtual 41, 3) := dk_182 0 41 (dk_at dksX7_word_1 12 rfl rfl)
theorem dX7_word_39 : decode cX7_word 39 = .ok (.if_icmp .ne 17, 3) := dk_160 0 17 (dk_at dksX7_word_1 15 rfl rfl)
theorem dX7_word_42 : decode cX7_word 42 = .ok (.aload_n 0, 1) := dk_42 (dk_at dksX7_word_1 18 rfl rfl)
theorem dX7_word_43 : decode cX7_word 43 = .ok (.dup, 1) := dk_89 (dk_at dksX7_word_1 19 rfl rfl)
theorem dX7_word_44 : decode cX7_word 44 = .ok (.getfield 15, 3) := dk_180 0 15 (dk_at dksX7_word_1 20 rfl rfl)
theorem dX7_word_47 : decode cX7_word 47 = .ok (.iload 7, 2) := dk_21 7 (dk_at dksX7_word_2 0 rfl rfl)
theorem dX7_word_49 : decode cX7_word 49 = .ok (.iadd, 1) := dk_96 (dk_at dksX7_word_2 2 rfl rfl)
theorem dX7_word_50 : decode cX7_word 50 = .ok (.putfield 15, 3) := dk_181 0 15 (dk_at dksX7_word_2 3 rfl rfl)
theorem dX7_word_53 : decode cX7_word 53 = .ok (.aload 6, 2) := dk_25 6 (dk_at dksX7_word_2 6 rfl rfl)
theorem dX7_word_55 : decode cX7_word 55 = .ok (.areturn, 1) := dk_176 (dk_at dksX7_word_2 8 rfl rfl)
theorem dX7_word_56 : decode cX7_word 56 = .ok (.iload_n 2, 1) := dk_28 (dk_at dksX7_word_2 9 rfl rfl)
theorem dX7_word_57 : decode cX7_word 57 = .ok (.iload 7, 2) := dk_21 7 (dk_at dksX7_word_2 10 rfl rfl)
theorem dX7_word_59 : decode cX7_word 59 = .ok (.invokestatic 49, 3) := dk_184 0 49 (dk_at dksX7_word_2 12 rfl rfl)
theorem dX7_word_62 : decode cX7_word 62 = .ok (.istore_n 2, 1) := dk_61 (dk_at dksX7_word_2 15 rfl rfl)
theorem dX7_word_63 : decode cX7_word 63 = .ok (.iinc 5 1, 3) := dk_132 5 1 (dk_at dksX7_word_2 16 rfl rfl)
theorem dX7_word_66 : decode cX7_word 66 = .ok (.goto (-55), 3) := dk_167 255 201 (dk_at dksX7_word_2 19 rfl rfl)
theorem dX7_word_69 : decode cX7_word 69 = .ok (.new 33, 3) := dk_187 0 33 (dk_at dksX7_word_3 0 rfl rfl)
theorem dX7_word_72 : decode cX7_word 72 = .ok (.dup, 1) := dk_89 (dk_at dksX7_word_3 3 rfl rfl)
theorem dX7_word_73 : decode cX7_word 73 = .ok (.aload_n 0, 1) := dk_42 (dk_at dksX7_word_3 4 rfl rfl)
theorem dX7_word_74 : decode cX7_word 74 = .ok (.getfield 15, 3) := dk_180 0 15 (dk_at dksX7_word_3 5 rfl rfl)
theorem dX7_word_77 : decode cX7_word 77 = .ok (.iload_n 2, 1) := dk_28 (dk_at dksX7_word_3 8 rfl rfl)
theorem dX7_word_78 : decode cX7_word 78 = .ok (.iadd, 1) := dk_96 (dk_at dksX7_word_3 9 rfl rfl)
theorem dX7_word_79 : decode cX7_word 79 = .ok (.invokespecial 35, 3) := dk_183 0 35 (dk_at dksX7_word_3 10 rfl rfl)
theorem dX7_word_82 : decode cX7_word 82 = .ok (.athrow, 1) := dk_191 (dk_at dksX7_word_3 13 rfl rfl)
abbrev cX7_lettersOf : ByteArray := prog_5_method_5_code
def yX7_lettersOf : MethodName := ⟨RX7, "lettersOf", "(Ljava/lang/String;)I"⟩
def dkwX7_lettersOf_2 : List UInt8 := [182, 0, 44, 160, 0, 9, 132, 2, 1, 167, 255, 202, 28, 172]
abbrev dktX7_lettersOf_2 : List UInt8 := dkwX7_lettersOf_2 ++ []
def dkwX7_lettersOf_1 : List UInt8 := [182, 0, 23, 162, 0, 33, 42, 180, 0, 3, 180, 0, 19, 42, 180, 0, 15, 28, 96, 182, 0, 29, 43, 28]
abbrev dktX7_lettersOf_1 : List UInt8 := dkwX7_lettersOf_1 ++ dktX7_lettersOf_2
def dkwX7_lettersOf_0 : List UInt8 := [3, 61, 28, 43, 182, 0, 41, 162, 0, 52, 42, 180, 0, 15, 28, 96, 42, 180, 0, 3, 180, 0, 19]
abbrev dktX7_lettersOf_0 : List UInt8 := dkwX7_lettersOf_0 ++ dktX7_lettersOf_1
theorem dksX7_lettersOf_0 : cX7_lettersOf.data.toList.drop 0 = dktX7_lettersOf_0 := by decide +kernel
theorem dksX7_lettersOf_1 : cX7_lettersOf.data.toList.drop 23 = dktX7_lettersOf_1 := dk_seg dksX7_lettersOf_0 23 rfl rfl
theorem dksX7_lettersOf_2 : cX7_lettersOf.data.toList.drop 47 = dktX7_lettersOf_2 := dk_seg dksX7_lettersOf_1 24 rfl rfl
theorem dX7_lettersOf_0 : decode cX7_lettersOf 0 = .ok (.iconst 0, 1) := dk_3 (dk_at dksX7_lettersOf_0 0 rfl rfl)
theorem dX7_lettersOf_1 : decode cX7_lettersOf 1 = .ok (.istore_n 2, 1) := dk_61 (dk_at dksX7_lettersOf_0 1 rfl rfl)
theorem dX7_lettersOf_2 : decode cX7_lettersOf 2 = .ok (.iload_n 2, 1) := dk_28 (dk_at dksX7_lettersOf_0 2 rfl rfl)
theorem dX7_lettersOf_3 : decode cX7_lettersOf 3 = .ok (.aload_n 1, 1) := dk_43 (dk_at dksX7_lettersOf_0 3 rfl rfl)
theorem dX7_lettersOf_4 : decode cX7_lettersOf 4 = .ok (.invokevirtual 41, 3) := dk_182 0 41 (dk_at dksX7_lettersOf_0 4 rfl rfl)
theorem dX7_lettersOf_7 : decode cX7_lettersOf 7 = .ok (.if_icmp .ge 52, 3) := dk_162 0 52 (dk_at dksX7_lettersOf_0 7 rfl rfl)
theorem dX7_lettersOf_10 : decode cX7_lettersOf 10 = .ok (.aload_n 0, 1) := dk_42 (dk_at dksX7_lettersOf_0 10 rfl rfl)
theorem dX7_lettersOf_11 : decode cX7_lettersOf 11 = .ok (.getfield 15, 3) := dk_180 0 15 (dk_at dksX7_lettersOf_0 11 rfl rfl)
theorem dX7_lettersOf_14 : decode cX7_lettersOf 14 = .ok (.iload_n 2, 1) := dk_28 (dk_at dksX7_lettersOf_0 14 rfl rfl)
theorem dX7_lettersOf_15 : decode cX7_lettersOf 15 = .ok (.iadd, 1) := dk_96 (dk_at dksX7_lettersOf_0 15 rfl rfl)
theorem dX7_lettersOf_16 : decode cX7_lettersOf 16 = .ok (.aload_n 0, 1) := dk_42 (dk_at dksX7_lettersOf_0 16 rfl rfl)
theorem dX7_lettersOf_17 : decode cX7_lettersOf 17 = .ok (.getfield 3, 3) := dk_180 0 3 (dk_at dksX7_lettersOf_0 17 rfl rfl)
theorem dX7_lettersOf_20 : decode cX7_lettersOf 20 = .ok (.getfield 19, 3) := dk_180 0 19 (dk_at dksX7_lettersOf_0 20 rfl rfl)
theorem dX7_lettersOf_23 : decode cX7_lettersOf 23 = .ok (.invokevirtual 23, 3) := dk_182 0 23 (dk_at dksX7_lettersOf_1 0 rfl rfl)
theorem dX7_lettersOf_26 : decode cX7_lettersOf 26 = .ok (.if_icmp .ge 33, 3) := dk_162 0 33 (dk_at dksX7_lettersOf_1 3 rfl rfl)
theorem dX7_lettersOf_29 : decode cX7_lettersOf 29 = .ok (.aload_n 0, 1) := dk_42 (dk_at dksX7_lettersOf_1 6 rfl rfl)
theorem dX7_lettersOf_30 : decode cX7_lettersOf 30 = .ok (.getfield 3, 3) := dk_180 0 3 (dk_at dksX7_lettersOf_1 7 rfl rfl)
theorem dX7_lettersOf_33 : decode cX7_lettersOf 33 = .ok (.getfield 19, 3) := dk_180 0 19 (dk_at dksX7_lettersOf_1 10 rfl rfl)
theorem dX7_lettersOf_36 : decode cX7_lettersOf 36 = .ok (.aload_n 0, 1) := dk_42 (dk_at dksX7_lettersOf_1 13 rfl rfl)
theorem dX7_lettersOf_37 : decode cX7_lettersOf 37 = .ok (.getfield 15, 3) := dk_180 0 15 (dk_at dksX7_lettersOf_1 14 rfl rfl)
theorem dX7_lettersOf_40 : decode cX7_lettersOf 40 = .ok (.iload_n 2, 1) := dk_28 (dk_at dksX7_lettersOf_1 17 rfl rfl)
theorem dX7_lettersOf_41 : decode cX7_lettersOf 41 = .ok (.iadd, 1) := dk_96 (dk_at dksX7_lettersOf_1 18 rfl rfl)
theorem dX7_lettersOf_42 : decode cX7_lettersOf 42 = .ok (.invokevirtual 29, 3) := dk_182 0 29 (dk_at dksX7_lettersOf_1 19 rfl rfl)
theorem dX7_lettersOf_45 : decode cX7_lettersOf 45 = .ok (.aload_n 1, 1) := dk_43 (dk_at dksX7_lettersOf_1 22 rfl rfl)
theorem dX7_lettersOf_46 : decode cX7_lettersOf 46 = .ok (.iload_n 2, 1) := dk_28 (dk_at dksX7_lettersOf_1 23 rfl rfl)
theorem dX7_lettersOf_47 : decode cX7_lettersOf 47 = .ok (.invokevirtual 44, 3) := dk_182 0 44 (dk_at dksX7_lettersOf_2 0 rfl rfl)
theorem dX7_lettersOf_50 : decode cX7_lettersOf 50 = .ok (.if_icmp .ne 9, 3) := dk_160 0 9 (dk_at dksX7_lettersOf_2 3 rfl rfl)
theorem dX7_lettersOf_53 : decode cX7_lettersOf 53 = .ok (.iinc 2 1, 3) := dk_132 2 1 (dk_at dksX7_lettersOf_2 6 rfl rfl)
theorem dX7_lettersOf_56 : decode cX7_lettersOf 56 = .ok (.goto (-54), 3) := dk_167 255 202 (dk_at dksX7_lettersOf_2 9 rfl rfl)
theorem dX7_lettersOf_59 : decode cX7_lettersOf 59 = .ok (.iload_n 2, 1) := dk_28 (dk_at dksX7_lettersOf_2 12 rfl rfl)
theorem dX7_lettersOf_60 : decode cX7_lettersOf 60 = .ok (.ireturn, 1) := dk_172 (dk_at dksX7_lettersOf_2 13 rfl rfl)
abbrev cX7_number : ByteArray := prog_5_method_7_code
def yX7_number : MethodName := ⟨RX7, "number", "(I)I"⟩
def dkwX7_number_2 : List UInt8 := [16, 48, 100, 61, 42, 89, 180, 0, 15, 4, 96, 181, 0, 15, 132, 3, 1, 167, 255, 211, 28, 172]
abbrev dktX7_number_2 : List UInt8 := dkwX7_number_2 ++ []
def dkwX7_number_1 : List UInt8 := [42, 182, 0, 38, 16, 48, 16, 57, 184, 0, 55, 153, 0, 32, 16, 10, 28, 104, 42, 182, 0, 38, 96]
abbrev dktX7_number_1 : List UInt8 := dkwX7_number_1 ++ dktX7_number_2
def dkwX7_number_0 : List UInt8 := [42, 42, 182, 0, 38, 16, 48, 16, 57, 184, 0, 55, 182, 0, 59, 3, 61, 3, 62, 29, 27, 162, 0, 46]
abbrev dktX7_number_0 : List UInt8 := dkwX7_number_0 ++ dktX7_number_1
theorem dksX7_number_0 : cX7_number.data.toList.drop 0 = dktX7_number_0 := by decide +kernel
theorem dksX7_number_1 : cX7_number.data.toList.drop 24 = dktX7_number_1 := dk_seg dksX7_number_0 24 rfl rfl
theorem dksX7_number_2 : cX7_number.data.toList.drop 47 = dktX7_number_2 := dk_seg dksX7_number_1 23 rfl rfl
theorem dX7_number_0 : decode cX7_number 0 = .ok (.aload_n 0, 1) := dk_42 (dk_at dksX7_number_0 0 rfl rfl)
theorem dX7_number_1 : decode cX7_number 1 = .ok (.aload_n 0, 1) := dk_42 (dk_at dksX7_number_0 1 rfl rfl)
theorem dX7_number_2 : decode cX7_number 2 = .ok (.invokevirtual 38, 3) := dk_182 0 38 (dk_at dksX7_number_0 2 rfl rfl)
theorem dX7_number_5 : decode cX7_number 5 = .ok (.bipush 48, 2) := dk_16 48 (dk_at dksX7_number_0 5 rfl rfl)
theorem dX7_number_7 : decode cX7_number 7 = .ok (.bipush 57, 2) := dk_16 57 (dk_at dksX7_number_0 7 rfl rfl)
theorem dX7_number_9 : decode cX7_number 9 = .ok (.invokestatic 55, 3) := dk_184 0 55 (dk_at dksX7_number_0 9 rfl rfl)
theorem dX7_number_12 : decode cX7_number 12 = .ok (.invokevirtual 59, 3) := dk_182 0 59 (dk_at dksX7_number_0 12 rfl rfl)
theorem dX7_number_15 : decode cX7_number 15 = .ok (.iconst 0, 1) := dk_3 (dk_at dksX7_number_0 15 rfl rfl)
theorem dX7_number_16 : decode cX7_number 16 = .ok (.istore_n 2, 1) := dk_61 (dk_at dksX7_number_0 16 rfl rfl)
theorem dX7_number_17 : decode cX7_number 17 = .ok (.iconst 0, 1) := dk_3 (dk_at dksX7_number_0 17 rfl rfl)
theorem dX7_number_18 : decode cX7_number 18 = .ok (.istore_n 3, 1) := dk_62 (dk_at dksX7_number_0 18 rfl rfl)
theorem dX7_number_19 : decode cX7_number 19 = .ok (.iload_n 3, 1) := dk_29 (dk_at dksX7_number_0 19 rfl rfl)
theorem dX7_number_20 : decode cX7_number 20 = .ok (.iload_n 1, 1) := dk_27 (dk_at dksX7_number_0 20 rfl rfl)
theorem dX7_number_21 : decode cX7_number 21 = .ok (.if_icmp .ge 46, 3) := dk_162 0 46 (dk_at dksX7_number_0 21 rfl rfl)
theorem dX7_number_24 : decode cX7_number 24 = .ok (.aload_n 0, 1) := dk_42 (dk_at dksX7_number_1 0 rfl rfl)
theorem dX7_number_25 : decode cX7_number 25 = .ok (.invokevirtual 38, 3) := dk_182 0 38 (dk_at dksX7_number_1 1 rfl rfl)
theorem dX7_number_28 : decode cX7_number 28 = .ok (.bipush 48, 2) := dk_16 48 (dk_at dksX7_number_1 4 rfl rfl)
theorem dX7_number_30 : decode cX7_number 30 = .ok (.bipush 57, 2) := dk_16 57 (dk_at dksX7_number_1 6 rfl rfl)
theorem dX7_number_32 : decode cX7_number 32 = .ok (.invokestatic 55, 3) := dk_184 0 55 (dk_at dksX7_number_1 8 rfl rfl)
theorem dX7_number_35 : decode cX7_number 35 = .ok (.ifCond .eq 32, 3) := dk_153 0 32 (dk_at dksX7_number_1 11 rfl rfl)
theorem dX7_number_38 : decode cX7_number 38 = .ok (.bipush 10, 2) := dk_16 10 (dk_at dksX7_number_1 14 rfl rfl)
theorem dX7_number_40 : decode cX7_number 40 = .ok (.iload_n 2, 1) := dk_28 (dk_at dksX7_number_1 16 rfl rfl)
theorem dX7_number_41 : decode cX7_number 41 = .ok (.imul, 1) := dk_104 (dk_at dksX7_number_1 17 rfl rfl)
theorem dX7_number_42 : decode cX7_number 42 = .ok (.aload_n 0, 1) := dk_42 (dk_at dksX7_number_1 18 rfl rfl)
theorem dX7_number_43 : decode cX7_number 43 = .ok (.invokevirtual 38, 3) := dk_182 0 38 (dk_at dksX7_number_1 19 rfl rfl)
theorem dX7_number_46 : decode cX7_number 46 = .ok (.iadd, 1) := dk_96 (dk_at dksX7_number_1 22 rfl rfl)
theorem dX7_number_47 : decode cX7_number 47 = .ok (.bipush 48, 2) := dk_16 48 (dk_at dksX7_number_2 0 rfl rfl)
theorem dX7_number_49 : decode cX7_number 49 = .ok (.isub, 1) := dk_100 (dk_at dksX7_number_2 2 rfl rfl)
theorem dX7_number_50 : decode cX7_number 50 = .ok (.istore_n 2, 1) := dk_61 (dk_at dksX7_number_2 3 rfl rfl)
theorem dX7_number_51 : decode cX7_number 51 = .ok (.aload_n 0, 1) := dk_42 (dk_at dksX7_number_2 4 rfl rfl)
theorem dX7_number_52 : decode cX7_number 52 = .ok (.dup, 1) := dk_89 (dk_at dksX7_number_2 5 rfl rfl)
theorem dX7_number_53 : decode cX7_number 53 = .ok (.getfield 15, 3) := dk_180 0 15 (dk_at dksX7_number_2 6 rfl rfl)
theorem dX7_number_56 : decode cX7_number 56 = .ok (.iconst 1, 1) := dk_4 (dk_at dksX7_number_2 9 rfl rfl)
theorem dX7_number_57 : decode cX7_number 57 = .ok (.iadd, 1) := dk_96 (dk_at dksX7_number_2 10 rfl rfl)
theorem dX7_number_58 : decode cX7_number 58 = .ok (.putfield 15, 3) := dk_181 0 15 (dk_at dksX7_number_2 11 rfl rfl)
theorem dX7_number_61 : decode cX7_number 61 = .ok (.iinc 3 1, 3) := dk_132 3 1 (dk_at dksX7_number_2 14 rfl rfl)
theorem dX7_number_64 : decode cX7_number 64 = .ok (.goto (-45), 3) := dk_167 255 211 (dk_at dksX7_number_2 17 rfl rfl)
theorem dX7_number_67 : decode cX7_number 67 = .ok (.iload_n 2, 1) := dk_28 (dk_at dksX7_number_2 20 rfl rfl)
theorem dX7_number_68 : decode cX7_number 68 = .ok (.ireturn, 1) := dk_172 (dk_at dksX7_number_2 21 rfl rfl)
abbrev cX7_here : ByteArray := prog_5_method_2_code
def yX7_here : MethodName := ⟨RX7, "here", "()I"⟩
def dkwX7_here_1 : List UInt8 := [42, 180, 0, 15, 182, 0, 29, 167, 0, 6, 17, 252, 13, 172]
abbrev dktX7_here_1 : List UInt8 := dkwX7_here_1 ++ []
def dkwX7_here_0 : List UInt8 := [42, 180, 0, 15, 42, 180, 0, 3, 180, 0, 19, 182, 0, 23, 162, 0, 20, 42, 180, 0, 3, 180, 0, 19]
abbrev dktX7_here_0 : List UInt8 := dkwX7_here_0 ++ dktX7_here_1
theorem dksX7_here_0 : cX7_here.data.toList.drop 0 = dktX7_here_0 := by decide +kernel
theorem dksX7_here_1 : cX7_here.data.toList.drop 24 = dktX7_here_1 := dk_seg dksX7_here_0 24 rfl rfl
theorem dX7_here_0 : decode cX7_here 0 = .ok (.aload_n 0, 1) := dk_42 (dk_at dksX7_here_0 0 rfl rfl)
theorem dX7_here_1 : decode cX7_here 1 = .ok (.getfield 15, 3) := dk_180 0 15 (dk_at dksX7_here_0 1 rfl rfl)
theorem dX7_here_4 : decode cX7_here 4 = .ok (.aload_n 0, 1) := dk_42 (dk_at dksX7_here_0 4 rfl rfl)
theorem dX7_here_5 : decode cX7_here 5 = .ok (.getfield 3, 3) := dk_180 0 3 (dk_at dksX7_here_0 5 rfl rfl)
theorem dX7_here_8 : decode cX7_here 8 = .ok (.getfield 19, 3) := dk_180 0 19 (dk_at dksX7_here_0 8 rfl rfl)
theorem dX7_here_11 : decode cX7_here 11 = .ok (.invokevirtual 23, 3) := dk_182 0 23 (dk_at dksX7_here_0 11 rfl rfl)
theorem dX7_here_14 : decode cX7_here 14 = .ok (.if_icmp .ge 20, 3) := dk_162 0 20 (dk_at dksX7_here_0 14 rfl rfl)
theorem dX7_here_17 : decode cX7_here 17 = .ok (.aload_n 0, 1) := dk_42 (dk_at dksX7_here_0 17 rfl rfl)
theorem dX7_here_18 : decode cX7_here 18 = .ok (.getfield 3, 3) := dk_180 0 3 (dk_at dksX7_here_0 18 rfl rfl)
theorem dX7_here_21 : decode cX7_here 21 = .ok (.getfield 19, 3) := dk_180 0 19 (dk_at dksX7_here_0 21 rfl rfl)
theorem dX7_here_24 : decode cX7_here 24 = .ok (.aload_n 0, 1) := dk_42 (dk_at dksX7_here_1 0 rfl rfl)
theorem dX7_here_25 : decode cX7_here 25 = .ok (.getfield 15, 3) := dk_180 0 15 (dk_at dksX7_here_1 1 rfl rfl)
theorem dX7_here_28 : decode cX7_here 28 = .ok (.invokevirtual 29, 3) := dk_182 0 29 (dk_at dksX7_here_1 4 rfl rfl)
theorem dX7_here_31 : decode cX7_here 31 = .ok (.goto 6, 3) := dk_167 0 6 (dk_at dksX7_here_1 7 rfl rfl)
theorem dX7_here_34 : decode cX7_here 34 = .ok (.sipush (-1011), 3) := dk_17 252 13 (dk_at dksX7_here_1 10 rfl rfl)
theorem dX7_here_37 : decode cX7_here 37 = .ok (.ireturn, 1) := dk_172 (dk_at dksX7_here_1 13 rfl rfl)
abbrev cX7_needs : ByteArray := prog_5_method_3_code
def yX7_needs : MethodName := ⟨RX7, "needs", "(Z)V"⟩
def dkwX7_needs_0 : List UInt8 := [27, 154, 0, 15, 187, 0, 33, 89, 42, 180, 0, 15, 183, 0, 35, 191, 177]
abbrev dktX7_needs_0 : List UInt8 := dkwX7_needs_0 ++ []
theorem dksX7_needs_0 : cX7_needs.data.toList.drop 0 = dktX7_needs_0 := by decide +kernel
theorem dX7_needs_0 : decode cX7_needs 0 = .ok (.iload_n 1, 1) := dk_27 (dk_at dksX7_needs_0 0 rfl rfl)
theorem dX7_needs_1 : decode cX7_needs 1 = .ok (.ifCond .ne 15, 3) := dk_154 0 15 (dk_at dksX7_needs_0 1 rfl rfl)
theorem dX7_needs_4 : decode cX7_needs 4 = .ok (.new 33, 3) := dk_187 0 33 (dk_at dksX7_needs_0 4 rfl rfl)
theorem dX7_needs_7 : decode cX7_needs 7 = .ok (.dup, 1) := dk_89 (dk_at dksX7_needs_0 7 rfl rfl)
theorem dX7_needs_8 : decode cX7_needs 8 = .ok (.aload_n 0, 1) := dk_42 (dk_at dksX7_needs_0 8 rfl rfl)
theorem dX7_needs_9 : decode cX7_needs 9 = .ok (.getfield 15, 3) := dk_180 0 15 (dk_at dksX7_needs_0 9 rfl rfl)
theorem dX7_needs_12 : decode cX7_needs 12 = .ok (.invokespecial 35, 3) := dk_183 0 35 (dk_at dksX7_needs_0 12 rfl rfl)
theorem dX7_needs_15 : decode cX7_needs 15 = .ok (.athrow, 1) := dk_191 (dk_at dksX7_needs_0 15 rfl rfl)
theorem dX7_needs_16 : decode cX7_needs 16 = .ok (.return_, 1) := dk_177 (dk_at dksX7_needs_0 16 rfl rfl)
abbrev cX7_behindBlank : ByteArray := prog_5_method_8_code
def yX7_behindBlank : MethodName := ⟨RX7, "behindBlank", "(I)I"⟩
def dkwX7_behindBlank_0 : List UInt8 := [42, 42, 16, 32, 182, 0, 63, 182, 0, 59, 42, 27, 182, 0, 67, 172]
abbrev dktX7_behindBlank_0 : List UInt8 := dkwX7_behindBlank_0 ++ []
theorem dksX7_behindBlank_0 : cX7_behindBlank.data.toList.drop 0 = dktX7_behindBlank_0 := by decide +kernel
theorem dX7_behindBlank_0 : decode cX7_behindBlank 0 = .ok (.aload_n 0, 1) := dk_42 (dk_at dksX7_behindBlank_0 0 rfl rfl)
theorem dX7_behindBlank_1 : decode cX7_behindBlank 1 = .ok (.aload_n 0, 1) := dk_42 (dk_at dksX7_behindBlank_0 1 rfl rfl)
theorem dX7_behindBlank_2 : decode cX7_behindBlank 2 = .ok (.bipush 32, 2) := dk_16 32 (dk_at dksX7_behindBlank_0 2 rfl rfl)
theorem dX7_behindBlank_4 : decode cX7_behindBlank 4 = .ok (.invokevirtual 63, 3) := dk_182 0 63 (dk_at dksX7_behindBlank_0 4 rfl rfl)
theorem dX7_behindBlank_7 : decode cX7_behindBlank 7 = .ok (.invokevirtual 59, 3) := dk_182 0 59 (dk_at dksX7_behindBlank_0 7 rfl rfl)
theorem dX7_behindBlank_10 : decode cX7_behindBlank 10 = .ok (.aload_n 0, 1) := dk_42 (dk_at dksX7_behindBlank_0 10 rfl rfl)
theorem dX7_behindBlank_11 : decode cX7_behindBlank 11 = .ok (.iload_n 1, 1) := dk_27 (dk_at dksX7_behindBlank_0 11 rfl rfl)
theorem dX7_behindBlank_12 : decode cX7_behindBlank 12 = .ok (.invokevirtual 67, 3) := dk_182 0 67 (dk_at dksX7_behindBlank_0 12 rfl rfl)
theorem dX7_behindBlank_15 : decode cX7_behindBlank 15 = .ok (.ireturn, 1) := dk_172 (dk_at dksX7_behindBlank_0 15 rfl rfl)
abbrev cX7_takes : ByteArray := prog_5_method_4_code
def yX7_takes : MethodName := ⟨RX7, "takes", "(I)Z"⟩
def dkwX7_takes_1 : List UInt8 := [167, 0, 4, 3, 96, 181, 0, 15, 28, 172]
abbrev dktX7_takes_1 : List UInt8 := dkwX7_takes_1 ++ []
def dkwX7_takes_0 : List UInt8 := [42, 182, 0, 38, 27, 160, 0, 7, 4, 167, 0, 4, 3, 61, 42, 89, 180, 0, 15, 28, 153, 0, 7, 4]
abbrev dktX7_takes_0 : List UInt8 := dkwX7_takes_0 ++ dktX7_takes_1
theorem dksX7_takes_0 : cX7_takes.data.toList.drop 0 = dktX7_takes_0 := by decide +kernel
theorem dksX7_takes_1 : cX7_takes.data.toList.drop 24 = dktX7_takes_1 := dk_seg dksX7_takes_0 24 rfl rfl
theorem dX7_takes_0 : decode cX7_takes 0 = .ok (.aload_n 0, 1) := dk_42 (dk_at dksX7_takes_0 0 rfl rfl)
theorem dX7_takes_1 : decode cX7_takes 1 = .ok (.invokevirtual 38, 3) := dk_182 0 38 (dk_at dksX7_takes_0 1 rfl rfl)
theorem dX7_takes_4 : decode cX7_takes 4 = .ok (.iload_n 1, 1) := dk_27 (dk_at dksX7_takes_0 4 rfl rfl)
theorem dX7_takes_5 : decode cX7_takes 5 = .ok (.if_icmp .ne 7, 3) := dk_160 0 7 (dk_at dksX7_takes_0 5 rfl rfl)
theorem dX7_takes_8 : decode cX7_takes 8 = .ok (.iconst 1, 1) := dk_4 (dk_at dksX7_takes_0 8 rfl rfl)
theorem dX7_takes_9 : decode cX7_takes 9 = .ok (.goto 4, 3) := dk_167 0 4 (dk_at dksX7_takes_0 9 rfl rfl)
theorem dX7_takes_12 : decode cX7_takes 12 = .ok (.iconst 0, 1) := dk_3 (dk_at dksX7_takes_0 12 rfl rfl)
theorem dX7_takes_13 : decode cX7_takes 13 = .ok (.istore_n 2, 1) := dk_61 (dk_at dksX7_takes_0 13 rfl rfl)
theorem dX7_takes_14 : decode cX7_takes 14 = .ok (.aload_n 0, 1) := dk_42 (dk_at dksX7_takes_0 14 rfl rfl)
theorem dX7_takes_15 : decode cX7_takes 15 = .ok (.dup, 1) := dk_89 (dk_at dksX7_takes_0 15 rfl rfl)
theorem dX7_takes_16 : decode cX7_takes 16 = .ok (.getfield 15, 3) := dk_180 0 15 (dk_at dksX7_takes_0 16 rfl rfl)
theorem dX7_takes_19 : decode cX7_takes 19 = .ok (.iload_n 2, 1) := dk_28 (dk_at dksX7_takes_0 19 rfl rfl)
theorem dX7_takes_20 : decode cX7_takes 20 = .ok (.ifCond .eq 7, 3) := dk_153 0 7 (dk_at dksX7_takes_0 20 rfl rfl)
theorem dX7_takes_23 : decode cX7_takes 23 = .ok (.iconst 1, 1) := dk_4 (dk_at dksX7_takes_0 23 rfl rfl)
theorem dX7_takes_24 : decode cX7_takes 24 = .ok (.goto 4, 3) := dk_167 0 4 (dk_at dksX7_takes_1 0 rfl rfl)
theorem dX7_takes_27 : decode cX7_takes 27 = .ok (.iconst 0, 1) := dk_3 (dk_at dksX7_takes_1 3 rfl rfl)
theorem dX7_takes_28 : decode cX7_takes 28 = .ok (.iadd, 1) := dk_96 (dk_at dksX7_takes_1 4 rfl rfl)
theorem dX7_takes_29 : decode cX7_takes 29 = .ok (.putfield 15, 3) := dk_181 0 15 (dk_at dksX7_takes_1 5 rfl rfl)
theorem dX7_takes_32 : decode cX7_takes 32 = .ok (.iload_n 2, 1) := dk_28 (dk_at dksX7_takes_1 8 rfl rfl)
theorem dX7_takes_33 : decode cX7_takes 33 = .ok (.ireturn, 1) := dk_172 (dk_at dksX7_takes_1 9 rfl rfl)
abbrev cX7_lock : ByteArray := prog_5_method_9_code
def yX7_lock : MethodName := ⟨RX7, "lock", "()I"⟩
def dkwX7_lock_1 : List UInt8 := [4, 182, 0, 67, 172]
abbrev dktX7_lock_1 : List UInt8 := dkwX7_lock_1 ++ []
def dkwX7_lock_0 : List UInt8 := [42, 42, 16, 32, 182, 0, 63, 182, 0, 59, 42, 16, 45, 182, 0, 63, 153, 0, 7, 2, 167, 0, 8, 42]
abbrev dktX7_lock_0 : List UInt8 := dkwX7_lock_0 ++ dktX7_lock_1
theorem dksX7_lock_0 : cX7_lock.data.toList.drop 0 = dktX7_lock_0 := by decide +kernel
theorem dksX7_lock_1 : cX7_lock.data.toList.drop 24 = dktX7_lock_1 := dk_seg dksX7_lock_0 24 rfl rfl
theorem dX7_lock_0 : decode cX7_lock 0 = .ok (.aload_n 0, 1) := dk_42 (dk_at dksX7_lock_0 0 rfl rfl)
theorem dX7_lock_1 : decode cX7_lock 1 = .ok (.aload_n 0, 1) := dk_42 (dk_at dksX7_lock_0 1 rfl rfl)
theorem dX7_lock_2 : decode cX7_lock 2 = .ok (.bipush 32, 2) := dk_16 32 (dk_at dksX7_lock_0 2 rfl rfl)
theorem dX7_lock_4 : decode cX7_lock 4 = .ok (.invokevirtual 63, 3) := dk_182 0 63 (dk_at dksX7_lock_0 4 rfl rfl)
theorem dX7_lock_7 : decode cX7_lock 7 = .ok (.invokevirtual 59, 3) := dk_182 0 59 (dk_at dksX7_lock_0 7 rfl rfl)
theorem dX7_lock_10 : decode cX7_lock 10 = .ok (.aload_n 0, 1) := dk_42 (dk_at dksX7_lock_0 10 rfl rfl)
theorem dX7_lock_11 : decode cX7_lock 11 = .ok (.bipush 45, 2) := dk_16 45 (dk_at dksX7_lock_0 11 rfl rfl)
theorem dX7_lock_13 : decode cX7_lock 13 = .ok (.invokevirtual 63, 3) := dk_182 0 63 (dk_at dksX7_lock_0 13 rfl rfl)
theorem dX7_lock_16 : decode cX7_lock 16 = .ok (.ifCond .eq 7, 3) := dk_153 0 7 (dk_at dksX7_lock_0 16 rfl rfl)
theorem dX7_lock_19 : decode cX7_lock 19 = .ok (.iconst (-1), 1) := dk_2 (dk_at dksX7_lock_0 19 rfl rfl)
theorem dX7_lock_20 : decode cX7_lock 20 = .ok (.goto 8, 3) := dk_167 0 8 (dk_at dksX7_lock_0 20 rfl rfl)
theorem dX7_lock_23 : decode cX7_lock 23 = .ok (.aload_n 0, 1) := dk_42 (dk_at dksX7_lock_0 23 rfl rfl)
theorem dX7_lock_24 : decode cX7_lock 24 = .ok (.iconst 1, 1) := dk_4 (dk_at dksX7_lock_1 0 rfl rfl)
theorem dX7_lock_25 : decode cX7_lock 25 = .ok (.invokevirtual 67, 3) := dk_182 0 67 (dk_at dksX7_lock_1 1 rfl rfl)
theorem dX7_lock_28 : decode cX7_lock 28 = .ok (.ireturn, 1) := dk_172 (dk_at dksX7_lock_1 4 rfl rfl)
theorem q139 : (Jvm.Cond.initialized "ParityMaze$Reader") ∈ lw_all := lw_g (lw_at lw_m1 52 rfl) rfl
theorem q280 : (Jvm.Cond.fieldLinkNest "ParityMaze$Reader" (19 : Nat) "ParityMaze" "text" "Ljava/lang/StringBuilder;" "ParityMaze") ∈ lw_tbl := lw_at lw_m1 193 rfl
theorem q460 : (Jvm.Cond.selects "ParityMaze$Reader" ({ cls := "java/lang/Object", name := "getClass", desc := "()Ljava/lang/Class;" } : Jvm.MethodName) ({ cls := "java/lang/Object", name := "getClass", desc := "()Ljava/lang/Class;" } : Jvm.MethodName)) ∈ lw_all := lw_g (lw_at lw_m2 133 rfl) rfl
theorem q988 : (Jvm.Cond.selects "ParityMaze$Reader" ({ cls := "java/lang/Object", name := "hashCode", desc := "()I" } : Jvm.MethodName) ({ cls := "java/lang/Object", name := "hashCode", desc := "()I" } : Jvm.MethodName)) ∈ lw_all := lw_g (lw_at lw_m4 181 rfl) rfl
theorem q1411 : (Jvm.Cond.selects "ParityMaze$Reader" ({ cls := "java/lang/Object", name := "equals", desc := "(Ljava/lang/Object;)Z" } : Jvm.MethodName) ({ cls := "java/lang/Object", name := "equals", desc := "(Ljava/lang/Object;)Z" } : Jvm.MethodName)) ∈ lw_all := lw_g (lw_at lw_m6 124 rfl) rfl
theorem q2044 : (Jvm.Cond.instantiable "ParityMaze$Reader" (2 : Nat)) ∈ lw_all := lw_g (lw_at lw_m9 37 rfl) rfl
theorem q2046 : (Jvm.Cond.instanceMethod ({ cls := "ParityMaze$Reader", name := "<init>", desc := "(LParityMaze;)V" } : Jvm.MethodName)) ∈ lw_all := lw_g (lw_at lw_m9 39 rfl) rfl
theorem q2047 : (Jvm.Cond.code ({ cls := "ParityMaze$Reader", name := "<init>", desc := "(LParityMaze;)V" } : Jvm.MethodName) prog_5_method_1_code (2 : Nat) (Option.none : Option Jvm.ClassFile.FieldType)) ∈ lw_all := lw_g (lw_at lw_m9 40 rfl) rfl
theorem q2048 : (Jvm.Cond.methodLink "ParityMaze$Reader" (9 : Nat) ({ cls := "java/lang/Object", name := "<init>", desc := "()V" } : Jvm.MethodName)) ∈ lw_all := lw_g (lw_at lw_m9 41 rfl) rfl
theorem q2049 : (Jvm.Cond.fieldLink "ParityMaze$Reader" (15 : Nat) "ParityMaze$Reader" "at" "I") ∈ lw_all := lw_g (lw_at lw_m9 42 rfl) rfl
theorem q2050 : (Jvm.Cond.fieldLink "ParityMaze$Reader" (3 : Nat) "ParityMaze$Reader" "this$0" "LParityMaze;") ∈ lw_all := lw_g (lw_at lw_m9 43 rfl) rfl
theorem q2051 : (Jvm.Cond.lays "ParityMaze$Reader" "ParityMaze$Reader" "at" "I") ∈ lw_all := lw_g (lw_at lw_m9 44 rfl) rfl
theorem q2052 : (Jvm.Cond.soleField "ParityMaze$Reader" "at") ∈ lw_all := lw_g (lw_at lw_m9 45 rfl) rfl
theorem q2053 : (Jvm.Cond.laysFinal "ParityMaze$Reader" "ParityMaze$Reader" "this$0" "LParityMaze;") ∈ lw_all := lw_g (lw_at lw_m9 46 rfl) rfl
theorem q2054 : (Jvm.Cond.soleField "ParityMaze$Reader" "this$0") ∈ lw_all := lw_g (lw_at lw_m9 47 rfl) rfl
theorem q2055 : (Jvm.Cond.superclass "ParityMaze$Reader" "java/lang/Object") ∈ lw_all := lw_g (lw_at lw_m9 48 rfl) rfl
theorem q2057 : (Jvm.Cond.instanceMethod ({ cls := "ParityMaze$Reader", name := "commands", desc := "()Ljava/util/LinkedList;" } : Jvm.MethodName)) ∈ lw_all := lw_g (lw_at lw_m9 50 rfl) rfl
theorem q2058 : (Jvm.Cond.selects "ParityMaze$Reader" ({ cls := "ParityMaze$Reader", name := "commands", desc := "()Ljava/util/LinkedList;" } : Jvm.MethodName) ({ cls := "ParityMaze$Reader", name := "commands", desc := "()Ljava/util/LinkedList;" } : Jvm.MethodName)) ∈ lw_all := lw_g (lw_at lw_m9 51 rfl) rfl
theorem q2059 : (Jvm.Cond.code ({ cls := "ParityMaze$Reader", name := "commands", desc := "()Ljava/util/LinkedList;" } : Jvm.MethodName) prog_5_method_11_code (2 : Nat) (Option.some (Jvm.ClassFile.FieldType.object "java/util/LinkedList"))) ∈ lw_all := lw_g (lw_at lw_m9 52 rfl) rfl
theorem q2060 : (Jvm.Cond.classLink "ParityMaze$Reader" (109 : Nat) "java/util/LinkedList") ∈ lw_all := lw_g (lw_at lw_m9 53 rfl) rfl
theorem q2061 : (Jvm.Cond.methodLink "ParityMaze$Reader" (111 : Nat) ({ cls := "java/util/LinkedList", name := "<init>", desc := "()V" } : Jvm.MethodName)) ∈ lw_all := lw_g (lw_at lw_m9 54 rfl) rfl
theorem q2062 : (Jvm.Cond.methodLink "ParityMaze$Reader" (112 : Nat) ({ cls := "ParityMaze$Reader", name := "command", desc := "()LParityMaze$Command;" } : Jvm.MethodName)) ∈ lw_all := lw_g (lw_at lw_m9 55 rfl) rfl
theorem q2063 : (Jvm.Cond.privateMethod ({ cls := "ParityMaze$Reader", name := "command", desc := "()LParityMaze$Command;" } : Jvm.MethodName)) ∈ lw_tbl := lw_at lw_m9 56 rfl
theorem q2064 : (Jvm.Cond.instanceMethod ({ cls := "ParityMaze$Reader", name := "command", desc := "()LParityMaze$Command;" } : Jvm.MethodName)) ∈ lw_all := lw_g (lw_at lw_m9 57 rfl) rfl
theorem q2065 : (Jvm.Cond.code ({ cls := "ParityMaze$Reader", name := "command", desc := "()LParityMaze$Command;" } : Jvm.MethodName) prog_5_method_10_code (9 : Nat) (Option.some (Jvm.ClassFile.FieldType.object "ParityMaze$Command"))) ∈ lw_all := lw_g (lw_at lw_m9 58 rfl) rfl
theorem q2066 : (Jvm.Cond.classLink "ParityMaze$Reader" (42 : Nat) "java/lang/String") ∈ lw_all := lw_g (lw_at lw_m9 59 rfl) rfl
theorem q2068 : (Jvm.Cond.stringRef "ParityMaze$Reader" (71 : Nat) "go ") ∈ lw_tbl := lw_at lw_m9 61 rfl
theorem q2069 : (Jvm.Cond.stringRef "ParityMaze$Reader" (73 : Nat) "wait ") ∈ lw_tbl := lw_at lw_m9 62 rfl
theorem q2070 : (Jvm.Cond.stringRef "ParityMaze$Reader" (75 : Nat) "take ") ∈ lw_tbl := lw_at lw_m9 63 rfl
theorem q2071 : (Jvm.Cond.stringRef "ParityMaze$Reader" (77 : Nat) "open ") ∈ lw_tbl := lw_at lw_m9 64 rfl
theorem q2072 : (Jvm.Cond.stringRef "ParityMaze$Reader" (79 : Nat) "oil ") ∈ lw_tbl := lw_at lw_m9 65 rfl
theorem q2073 : (Jvm.Cond.stringRef "ParityMaze$Reader" (81 : Nat) "room ") ∈ lw_tbl := lw_at lw_m9 66 rfl
theorem q2074 : (Jvm.Cond.stringRef "ParityMaze$Reader" (83 : Nat) "key ") ∈ lw_tbl := lw_at lw_m9 67 rfl
theorem q2075 : (Jvm.Cond.stringRef "ParityMaze$Reader" (85 : Nat) "door ") ∈ lw_tbl := lw_at lw_m9 68 rfl
theorem q2076 : (Jvm.Cond.methodLink "ParityMaze$Reader" (87 : Nat) ({ cls := "ParityMaze$Reader", name := "word", desc := "([Ljava/lang/String;)Ljava/lang/String;" } : Jvm.MethodName)) ∈ lw_all := lw_g (lw_at lw_m9 69 rfl) rfl
theorem q2077 : (Jvm.Cond.privateMethod ({ cls := "ParityMaze$Reader", name := "word", desc := "([Ljava/lang/String;)Ljava/lang/String;" } : Jvm.MethodName)) ∈ lw_tbl := lw_at lw_m9 70 rfl
theorem q2078 : (Jvm.Cond.instanceMethod ({ cls := "ParityMaze$Reader", name := "word", desc := "([Ljava/lang/String;)Ljava/lang/String;" } : Jvm.MethodName)) ∈ lw_all := lw_g (lw_at lw_m9 71 rfl) rfl
theorem q2079 : (Jvm.Cond.code ({ cls := "ParityMaze$Reader", name := "word", desc := "([Ljava/lang/String;)Ljava/lang/String;" } : Jvm.MethodName) prog_5_method_6_code (8 : Nat) (Option.some (Jvm.ClassFile.FieldType.object "java/lang/String"))) ∈ lw_all := lw_g (lw_at lw_m9 72 rfl) rfl
theorem q2080 : (Jvm.Cond.methodLink "ParityMaze$Reader" (45 : Nat) ({ cls := "ParityMaze$Reader", name := "lettersOf", desc := "(Ljava/lang/String;)I" } : Jvm.MethodName)) ∈ lw_all := lw_g (lw_at lw_m9 73 rfl) rfl
theorem q2081 : (Jvm.Cond.privateMethod ({ cls := "ParityMaze$Reader", name := "lettersOf", desc := "(Ljava/lang/String;)I" } : Jvm.MethodName)) ∈ lw_tbl := lw_at lw_m9 74 rfl
theorem q2082 : (Jvm.Cond.instanceMethod ({ cls := "ParityMaze$Reader", name := "lettersOf", desc := "(Ljava/lang/String;)I" } : Jvm.MethodName)) ∈ lw_all := lw_g (lw_at lw_m9 75 rfl) rfl
theorem q2083 : (Jvm.Cond.code ({ cls := "ParityMaze$Reader", name := "lettersOf", desc := "(Ljava/lang/String;)I" } : Jvm.MethodName) prog_5_method_5_code (3 : Nat) (Option.some Jvm.ClassFile.FieldType.int)) ∈ lw_all := lw_g (lw_at lw_m9 76 rfl) rfl
theorem q2084 : (Jvm.Cond.methodLink "ParityMaze$Reader" (41 : Nat) ({ cls := "java/lang/String", name := "length", desc := "()I" } : Jvm.MethodName)) ∈ lw_all := lw_g (lw_at lw_m9 77 rfl) rfl
theorem q2088 : (Jvm.Cond.methodLink "ParityMaze$Reader" (23 : Nat) ({ cls := "java/lang/StringBuilder", name := "length", desc := "()I" } : Jvm.MethodName)) ∈ lw_all := lw_g (lw_at lw_m9 81 rfl) rfl
theorem q2089 : (Jvm.Cond.methodLink "ParityMaze$Reader" (29 : Nat) ({ cls := "java/lang/StringBuilder", name := "charAt", desc := "(I)C" } : Jvm.MethodName)) ∈ lw_all := lw_g (lw_at lw_m9 82 rfl) rfl
theorem q2099 : (Jvm.Cond.methodLink "ParityMaze$Reader" (44 : Nat) ({ cls := "java/lang/String", name := "charAt", desc := "(I)C" } : Jvm.MethodName)) ∈ lw_all := lw_g (lw_at lw_m9 92 rfl) rfl
theorem q2110 : (Jvm.Cond.methodLink "ParityMaze$Reader" (49 : Nat) ({ cls := "java/lang/Math", name := "max", desc := "(II)I" } : Jvm.MethodName)) ∈ lw_all := lw_g (lw_at lw_m9 103 rfl) rfl
theorem q2111 : (Jvm.Cond.classLink "ParityMaze$Reader" (33 : Nat) "ParityMaze$Wrong") ∈ lw_all := lw_g (lw_at lw_m9 104 rfl) rfl
theorem q2120 : (Jvm.Cond.methodLink "ParityMaze$Reader" (35 : Nat) ({ cls := "ParityMaze$Wrong", name := "<init>", desc := "(I)V" } : Jvm.MethodName)) ∈ lw_all := lw_g (lw_at lw_m9 113 rfl) rfl
theorem q2130 : (Jvm.Cond.methodLink "ParityMaze$Reader" (91 : Nat) ({ cls := "java/lang/String", name := "hashCode", desc := "()I" } : Jvm.MethodName)) ∈ lw_all := lw_g (lw_at lw_m9 123 rfl) rfl
theorem q2131 : (Jvm.Cond.methodLink "ParityMaze$Reader" (94 : Nat) ({ cls := "java/lang/String", name := "equals", desc := "(Ljava/lang/Object;)Z" } : Jvm.MethodName)) ∈ lw_all := lw_g (lw_at lw_m9 124 rfl) rfl
theorem q2132 : (Jvm.Cond.classLink "ParityMaze$Reader" (98 : Nat) "ParityMaze$Command") ∈ lw_all := lw_g (lw_at lw_m9 125 rfl) rfl
theorem q2134 : (Jvm.Cond.methodLink "ParityMaze$Reader" (67 : Nat) ({ cls := "ParityMaze$Reader", name := "number", desc := "(I)I" } : Jvm.MethodName)) ∈ lw_all := lw_g (lw_at lw_m9 127 rfl) rfl
theorem q2135 : (Jvm.Cond.privateMethod ({ cls := "ParityMaze$Reader", name := "number", desc := "(I)I" } : Jvm.MethodName)) ∈ lw_tbl := lw_at lw_m9 128 rfl
theorem q2136 : (Jvm.Cond.instanceMethod ({ cls := "ParityMaze$Reader", name := "number", desc := "(I)I" } : Jvm.MethodName)) ∈ lw_all := lw_g (lw_at lw_m9 129 rfl) rfl
theorem q2137 : (Jvm.Cond.code ({ cls := "ParityMaze$Reader", name := "number", desc := "(I)I" } : Jvm.MethodName) prog_5_method_7_code (4 : Nat) (Option.some Jvm.ClassFile.FieldType.int)) ∈ lw_all := lw_g (lw_at lw_m9 130 rfl) rfl
theorem q2138 : (Jvm.Cond.methodLink "ParityMaze$Reader" (38 : Nat) ({ cls := "ParityMaze$Reader", name := "here", desc := "()I" } : Jvm.MethodName)) ∈ lw_all := lw_g (lw_at lw_m9 131 rfl) rfl
theorem q2139 : (Jvm.Cond.privateMethod ({ cls := "ParityMaze$Reader", name := "here", desc := "()I" } : Jvm.MethodName)) ∈ lw_tbl := lw_at lw_m9 132 rfl
theorem q2140 : (Jvm.Cond.instanceMethod ({ cls := "ParityMaze$Reader", name := "here", desc := "()I" } : Jvm.MethodName)) ∈ lw_all := lw_g (lw_at lw_m9 133 rfl) rfl
theorem q2141 : (Jvm.Cond.code ({ cls := "ParityMaze$Reader", name := "here", desc := "()I" } : Jvm.MethodName) prog_5_method_2_code (1 : Nat) (Option.some Jvm.ClassFile.FieldType.int)) ∈ lw_all := lw_g (lw_at lw_m9 134 rfl) rfl
theorem q2142 : (Jvm.Cond.methodLinkNest "ParityMaze$Reader" (55 : Nat) ({ cls := "ParityMaze", name := "isIn", desc := "(III)Z" } : Jvm.MethodName) "ParityMaze") ∈ lw_tbl := lw_at lw_m9 135 rfl
theorem q2143 : (Jvm.Cond.methodLink "ParityMaze$Reader" (59 : Nat) ({ cls := "ParityMaze$Reader", name := "needs", desc := "(Z)V" } : Jvm.MethodName)) ∈ lw_all := lw_g (lw_at lw_m9 136 rfl) rfl
theorem q2144 : (Jvm.Cond.privateMethod ({ cls := "ParityMaze$Reader", name := "needs", desc := "(Z)V" } : Jvm.MethodName)) ∈ lw_tbl := lw_at lw_m9 137 rfl
theorem q2145 : (Jvm.Cond.instanceMethod ({ cls := "ParityMaze$Reader", name := "needs", desc := "(Z)V" } : Jvm.MethodName)) ∈ lw_all := lw_g (lw_at lw_m9 138 rfl) rfl
theorem q2146 : (Jvm.Cond.code ({ cls := "ParityMaze$Reader", name := "needs", desc := "(Z)V" } : Jvm.MethodName) prog_5_method_3_code (2 : Nat) (Option.none : Option Jvm.ClassFile.FieldType)) ∈ lw_all := lw_g (lw_at lw_m9 139 rfl) rfl
theorem q2147 : (Jvm.Cond.methodLink "ParityMaze$Reader" (100 : Nat) ({ cls := "ParityMaze$Command", name := "<init>", desc := "(Ljava/lang/String;[I)V" } : Jvm.MethodName)) ∈ lw_all := lw_g (lw_at lw_m9 140 rfl) rfl
theorem q2158 : (Jvm.Cond.methodLink "ParityMaze$Reader" (103 : Nat) ({ cls := "ParityMaze$Reader", name := "behindBlank", desc := "(I)I" } : Jvm.MethodName)) ∈ lw_all := lw_g (lw_at lw_m9 151 rfl) rfl
theorem q2159 : (Jvm.Cond.privateMethod ({ cls := "ParityMaze$Reader", name := "behindBlank", desc := "(I)I" } : Jvm.MethodName)) ∈ lw_tbl := lw_at lw_m9 152 rfl
theorem q2160 : (Jvm.Cond.instanceMethod ({ cls := "ParityMaze$Reader", name := "behindBlank", desc := "(I)I" } : Jvm.MethodName)) ∈ lw_all := lw_g (lw_at lw_m9 153 rfl) rfl
theorem q2161 : (Jvm.Cond.code ({ cls := "ParityMaze$Reader", name := "behindBlank", desc := "(I)I" } : Jvm.MethodName) prog_5_method_8_code (2 : Nat) (Option.some Jvm.ClassFile.FieldType.int)) ∈ lw_all := lw_g (lw_at lw_m9 154 rfl) rfl
theorem q2162 : (Jvm.Cond.methodLink "ParityMaze$Reader" (63 : Nat) ({ cls := "ParityMaze$Reader", name := "takes", desc := "(I)Z" } : Jvm.MethodName)) ∈ lw_all := lw_g (lw_at lw_m9 155 rfl) rfl
theorem q2163 : (Jvm.Cond.privateMethod ({ cls := "ParityMaze$Reader", name := "takes", desc := "(I)Z" } : Jvm.MethodName)) ∈ lw_tbl := lw_at lw_m9 156 rfl
theorem q2164 : (Jvm.Cond.instanceMethod ({ cls := "ParityMaze$Reader", name := "takes", desc := "(I)Z" } : Jvm.MethodName)) ∈ lw_all := lw_g (lw_at lw_m9 157 rfl) rfl
theorem q2165 : (Jvm.Cond.code ({ cls := "ParityMaze$Reader", name := "takes", desc := "(I)Z" } : Jvm.MethodName) prog_5_method_4_code (3 : Nat) (Option.some Jvm.ClassFile.FieldType.boolean)) ∈ lw_all := lw_g (lw_at lw_m9 158 rfl) rfl
theorem q2166 : (Jvm.Cond.methodLink "ParityMaze$Reader" (106 : Nat) ({ cls := "ParityMaze$Reader", name := "lock", desc := "()I" } : Jvm.MethodName)) ∈ lw_all := lw_g (lw_at lw_m9 159 rfl) rfl
theorem q2167 : (Jvm.Cond.privateMethod ({ cls := "ParityMaze$Reader", name := "lock", desc := "()I" } : Jvm.MethodName)) ∈ lw_tbl := lw_at lw_m9 160 rfl
theorem q2168 : (Jvm.Cond.instanceMethod ({ cls := "ParityMaze$Reader", name := "lock", desc := "()I" } : Jvm.MethodName)) ∈ lw_all := lw_g (lw_at lw_m9 161 rfl) rfl
theorem q2169 : (Jvm.Cond.code ({ cls := "ParityMaze$Reader", name := "lock", desc := "()I" } : Jvm.MethodName) prog_5_method_9_code (1 : Nat) (Option.some Jvm.ClassFile.FieldType.int)) ∈ lw_all := lw_g (lw_at lw_m9 162 rfl) rfl
theorem q2170 : (Jvm.Cond.methodLink "ParityMaze$Reader" (116 : Nat) ({ cls := "java/util/LinkedList", name := "addLast", desc := "(Ljava/lang/Object;)V" } : Jvm.MethodName)) ∈ lw_all := lw_g (lw_at lw_m9 163 rfl) rfl
theorem q2912 : (Jvm.Cond.castable "ParityMaze$Reader" "java/lang/Object") ∈ lw_tbl := lw_at lw_m12 185 rfl
theorem in_X7 : ∀ w ∈ wsX70, w ∈ lw_all := lw_in wsX70 [2051, 2053] (by decide +kernel) (by decide +kernel)
/-! ParityMaze$Wrong -/
set_option maxRecDepth 100000
def RX8 : String := "ParityMaze$Wrong"
def TX8 : u_T := fun k => match k with
  | 0 => ("java/lang/Throwable", "cause", "Ljava/lang/Throwable;", false)
  | 1 => ("java/lang/Throwable", "stackTrace", "[Ljava/lang/StackTraceElement;", false)
  | 2 => ("java/lang/Throwable", "suppressedExceptions", "Ljava/util/List;", false)
  | 3 => ("java/lang/Throwable", "detailMessage", "Ljava/lang/String;", false)
  | 4 => ("java/lang/Throwable", "backtrace", "Ljava/lang/Object;", false)
  | 5 => ("java/lang/Throwable", "depth", "I", false)
  | _ => ("ParityMaze$Wrong", "at", "I", true)
def tyX8 : Nat → FieldType := fun k => match k with
  | 0 => .object "java/lang/Throwable"
  | 1 => .array (.object "java/lang/StackTraceElement")
  | 2 => .object "java/util/List"
  | 3 => .object "java/lang/String"
  | 4 => .object "java/lang/Object"
  | 5 => .int
  | _ => .int
abbrev wsX80 : List Cond := u_ws RX8 TX8 7
theorem nmX8 : ∀ a, a < 7 → ∀ b, b < 7 → a ≠ b → (TX8 a).2.1 ≠ (TX8 b).2.1 := by decide +kernel
theorem tyX8_ok : ∀ k, k < 7 → parseFieldDescriptor (TX8 k).2.2.1 = some (tyX8 k) := by decide +kernel
abbrev cX8_init : ByteArray := prog_9_method_1_code
def yX8_init : MethodName := ⟨RX8, "<init>", "(I)V"⟩
def dkwX8_init_0 : List UInt8 := [42, 1, 1, 3, 3, 183, 0, 1, 42, 27, 181, 0, 7, 177]
abbrev dktX8_init_0 : List UInt8 := dkwX8_init_0 ++ []
theorem dksX8_init_0 : cX8_init.data.toList.drop 0 = dktX8_init_0 := by decide +kernel
theorem dX8_init_0 : decode cX8_init 0 = .ok (.aload_n 0, 1) := dk_42 (dk_at dksX8_init_0 0 rfl rfl)
theorem dX8_init_1 : decode cX8_init 1 = .ok (.aconst_null, 1) := dk_1 (dk_at dksX8_init_0 1 rfl rfl)
theorem dX8_init_2 : decode cX8_init 2 = .ok (.aconst_null, 1) := dk_1 (dk_at dksX8_init_0 2 rfl rfl)
theorem dX8_init_3 : decode cX8_init 3 = .ok (.iconst 0, 1) := dk_3 (dk_at dksX8_init_0 3 rfl rfl)
theorem dX8_init_4 : decode cX8_init 4 = .ok (.iconst 0, 1) := dk_3 (dk_at dksX8_init_0 4 rfl rfl)
theorem dX8_init_5 : decode cX8_init 5 = .ok (.invokespecial 1, 3) := dk_183 0 1 (dk_at dksX8_init_0 5 rfl rfl)
theorem dX8_init_8 : decode cX8_init 8 = .ok (.aload_n 0, 1) := dk_42 (dk_at dksX8_init_0 8 rfl rfl)
theorem dX8_init_9 : decode cX8_init 9 = .ok (.iload_n 1, 1) := dk_27 (dk_at dksX8_init_0 9 rfl rfl)
theorem dX8_init_10 : decode cX8_init 10 = .ok (.putfield 7, 3) := dk_181 0 7 (dk_at dksX8_init_0 10 rfl rfl)
theorem dX8_init_13 : decode cX8_init 13 = .ok (.return_, 1) := dk_177 (dk_at dksX8_init_0 13 rfl rfl)
theorem q140 : (Jvm.Cond.initialized "ParityMaze$Wrong") ∈ lw_all := lw_g (lw_at lw_m1 53 rfl) rfl
theorem q464 : (Jvm.Cond.selects "ParityMaze$Wrong" ({ cls := "java/lang/Object", name := "getClass", desc := "()Ljava/lang/Class;" } : Jvm.MethodName) ({ cls := "java/lang/Object", name := "getClass", desc := "()Ljava/lang/Class;" } : Jvm.MethodName)) ∈ lw_all := lw_g (lw_at lw_m2 137 rfl) rfl
theorem q545 : (Jvm.Cond.selects "ParityMaze$Wrong" ({ cls := "java/lang/Throwable", name := "fillInStackTrace", desc := "()Ljava/lang/Throwable;" } : Jvm.MethodName) ({ cls := "java/lang/Throwable", name := "fillInStackTrace", desc := "()Ljava/lang/Throwable;" } : Jvm.MethodName)) ∈ lw_all := lw_g (lw_at lw_m2 218 rfl) rfl
theorem q994 : (Jvm.Cond.selects "ParityMaze$Wrong" ({ cls := "java/lang/Object", name := "hashCode", desc := "()I" } : Jvm.MethodName) ({ cls := "java/lang/Object", name := "hashCode", desc := "()I" } : Jvm.MethodName)) ∈ lw_all := lw_g (lw_at lw_m4 187 rfl) rfl
theorem q1418 : (Jvm.Cond.selects "ParityMaze$Wrong" ({ cls := "java/lang/Object", name := "equals", desc := "(Ljava/lang/Object;)Z" } : Jvm.MethodName) ({ cls := "java/lang/Object", name := "equals", desc := "(Ljava/lang/Object;)Z" } : Jvm.MethodName)) ∈ lw_all := lw_g (lw_at lw_m6 131 rfl) rfl
theorem q2112 : (Jvm.Cond.instantiable "ParityMaze$Wrong" (7 : Nat)) ∈ lw_all := lw_g (lw_at lw_m9 105 rfl) rfl
theorem q2113 : (Jvm.Cond.castable "ParityMaze$Wrong" "ParityMaze$Wrong") ∈ lw_tbl := lw_at lw_m9 106 rfl
theorem q2114 : (Jvm.Cond.selects "ParityMaze$Wrong" ({ cls := "java/lang/Throwable", name := "fillInStackTrace", desc := "(I)Ljava/lang/Throwable;" } : Jvm.MethodName) ({ cls := "java/lang/Throwable", name := "fillInStackTrace", desc := "(I)Ljava/lang/Throwable;" } : Jvm.MethodName)) ∈ lw_all := lw_g (lw_at lw_m9 107 rfl) rfl
theorem q2115 : (Jvm.Cond.lays "ParityMaze$Wrong" "java/lang/Throwable" "cause" "Ljava/lang/Throwable;") ∈ lw_all := lw_g (lw_at lw_m9 108 rfl) rfl
theorem q2116 : (Jvm.Cond.lays "ParityMaze$Wrong" "java/lang/Throwable" "stackTrace" "[Ljava/lang/StackTraceElement;") ∈ lw_all := lw_g (lw_at lw_m9 109 rfl) rfl
theorem q2117 : (Jvm.Cond.lays "ParityMaze$Wrong" "java/lang/Throwable" "suppressedExceptions" "Ljava/util/List;") ∈ lw_all := lw_g (lw_at lw_m9 110 rfl) rfl
theorem q2118 : (Jvm.Cond.lays "ParityMaze$Wrong" "java/lang/Throwable" "detailMessage" "Ljava/lang/String;") ∈ lw_all := lw_g (lw_at lw_m9 111 rfl) rfl
theorem q2119 : (Jvm.Cond.lays "ParityMaze$Wrong" "java/lang/Throwable" "backtrace" "Ljava/lang/Object;") ∈ lw_all := lw_g (lw_at lw_m9 112 rfl) rfl
theorem q2121 : (Jvm.Cond.instanceMethod ({ cls := "ParityMaze$Wrong", name := "<init>", desc := "(I)V" } : Jvm.MethodName)) ∈ lw_all := lw_g (lw_at lw_m9 114 rfl) rfl
theorem q2122 : (Jvm.Cond.code ({ cls := "ParityMaze$Wrong", name := "<init>", desc := "(I)V" } : Jvm.MethodName) prog_9_method_1_code (2 : Nat) (Option.none : Option Jvm.ClassFile.FieldType)) ∈ lw_all := lw_g (lw_at lw_m9 115 rfl) rfl
theorem q2123 : (Jvm.Cond.methodLink "ParityMaze$Wrong" (1 : Nat) ({ cls := "java/lang/Exception", name := "<init>", desc := "(Ljava/lang/String;Ljava/lang/Throwable;ZZ)V" } : Jvm.MethodName)) ∈ lw_all := lw_g (lw_at lw_m9 116 rfl) rfl
theorem q2124 : (Jvm.Cond.fieldLink "ParityMaze$Wrong" (7 : Nat) "ParityMaze$Wrong" "at" "I") ∈ lw_all := lw_g (lw_at lw_m9 117 rfl) rfl
theorem q2126 : (Jvm.Cond.laysFinal "ParityMaze$Wrong" "ParityMaze$Wrong" "at" "I") ∈ lw_all := lw_g (lw_at lw_m9 119 rfl) rfl
theorem q2127 : (Jvm.Cond.soleField "ParityMaze$Wrong" "at") ∈ lw_all := lw_g (lw_at lw_m9 120 rfl) rfl
theorem q2128 : (Jvm.Cond.lays "ParityMaze$Wrong" "java/lang/Throwable" "depth" "I") ∈ lw_all := lw_g (lw_at lw_m9 121 rfl) rfl
theorem q2129 : (Jvm.Cond.superclass "ParityMaze$Wrong" "java/lang/Exception") ∈ lw_all := lw_g (lw_at lw_m9 122 rfl) rfl
theorem q2913 : (Jvm.Cond.castable "ParityMaze$Wrong" "java/lang/Object") ∈ lw_tbl := lw_at lw_m12 186 rfl
theorem in_X8 : ∀ w ∈ wsX80, w ∈ lw_all := lw_in wsX80 [2115, 2116, 2117, 2118, 2119, 2128, 2126] (by decide +kernel) (by decide +kernel)
/-! ParityMaze$Command -/
set_option maxRecDepth 100000
def RX9 : String := "ParityMaze$Command"
def TX9 : u_T := fun k => match k with
  | 0 => ("ParityMaze$Command", "word", "Ljava/lang/String;", true)
  | _ => ("ParityMaze$Command", "numbers", "[I", true)
def tyX9 : Nat → FieldType := fun k => match k with
  | 0 => .object "java/lang/String"
  | _ => .array .int
abbrev wsX90 : List Cond := u_ws RX9 TX9 2
theorem nmX9 : ∀ a, a < 2 → ∀ b, b < 2 → a ≠ b → (TX9 a).2.1 ≠ (TX9 b).2.1 := by decide +kernel
theorem tyX9_ok : ∀ k, k < 2 → parseFieldDescriptor (TX9 k).2.2.1 = some (tyX9 k) := by decide +kernel
abbrev cX9_init : ByteArray := prog_2_method_1_code
def yX9_init : MethodName := ⟨RX9, "<init>", "(Ljava/lang/String;[I)V"⟩
def dkwX9_init_0 : List UInt8 := [42, 183, 0, 3, 42, 43, 181, 0, 9, 42, 44, 181, 0, 15, 177]
abbrev dktX9_init_0 : List UInt8 := dkwX9_init_0 ++ []
theorem dksX9_init_0 : cX9_init.data.toList.drop 0 = dktX9_init_0 := by decide +kernel
theorem dX9_init_0 : decode cX9_init 0 = .ok (.aload_n 0, 1) := dk_42 (dk_at dksX9_init_0 0 rfl rfl)
theorem dX9_init_1 : decode cX9_init 1 = .ok (.invokespecial 3, 3) := dk_183 0 3 (dk_at dksX9_init_0 1 rfl rfl)
theorem dX9_init_4 : decode cX9_init 4 = .ok (.aload_n 0, 1) := dk_42 (dk_at dksX9_init_0 4 rfl rfl)
theorem dX9_init_5 : decode cX9_init 5 = .ok (.aload_n 1, 1) := dk_43 (dk_at dksX9_init_0 5 rfl rfl)
theorem dX9_init_6 : decode cX9_init 6 = .ok (.putfield 9, 3) := dk_181 0 9 (dk_at dksX9_init_0 6 rfl rfl)
theorem dX9_init_9 : decode cX9_init 9 = .ok (.aload_n 0, 1) := dk_42 (dk_at dksX9_init_0 9 rfl rfl)
theorem dX9_init_10 : decode cX9_init 10 = .ok (.aload_n 2, 1) := dk_44 (dk_at dksX9_init_0 10 rfl rfl)
theorem dX9_init_11 : decode cX9_init 11 = .ok (.putfield 15, 3) := dk_181 0 15 (dk_at dksX9_init_0 11 rfl rfl)
theorem dX9_init_14 : decode cX9_init 14 = .ok (.return_, 1) := dk_177 (dk_at dksX9_init_0 14 rfl rfl)
abbrev cX9_isCarriedOut : ByteArray := prog_2_method_4_code
def yX9_isCarriedOut : MethodName := ⟨RX9, "isCarriedOut", "(LParityMaze$Maze;)Z"⟩
def dkwX9_isCarriedOut_3 : List UInt8 := [78, 3, 172]
abbrev dktX9_isCarriedOut_3 : List UInt8 := dkwX9_isCarriedOut_3 ++ []
def dkwX9_isCarriedOut_2 : List UInt8 := [4, 167, 0, 4, 3, 61, 28, 153, 0, 11, 42, 43, 182, 0, 99, 167, 0, 8, 42, 43, 182, 0, 103, 172]
abbrev dktX9_isCarriedOut_2 : List UInt8 := dkwX9_isCarriedOut_2 ++ dktX9_isCarriedOut_3
def dkwX9_isCarriedOut_1 : List UInt8 := [42, 180, 0, 9, 18, 33, 182, 0, 27, 154, 0, 15, 42, 180, 0, 9, 18, 97, 182, 0, 27, 153, 0, 7]
abbrev dktX9_isCarriedOut_1 : List UInt8 := dkwX9_isCarriedOut_1 ++ dktX9_isCarriedOut_2
def dkwX9_isCarriedOut_0 : List UInt8 := [42, 180, 0, 9, 18, 25, 182, 0, 27, 154, 0, 39, 42, 180, 0, 9, 18, 31, 182, 0, 27, 154, 0, 27]
abbrev dktX9_isCarriedOut_0 : List UInt8 := dkwX9_isCarriedOut_0 ++ dktX9_isCarriedOut_1
theorem dksX9_isCarriedOut_0 : cX9_isCarriedOut.data.toList.drop 0 = dktX9_isCarriedOut_0 := by decide +kernel
theorem dksX9_isCarriedOut_1 : cX9_isCarriedOut.data.toList.drop 24 = dktX9_isCarriedOut_1 := dk_seg dksX9_isCarriedOut_0 24 rfl rfl
theorem dksX9_isCarriedOut_2 : cX9_isCarriedOut.data.toList.drop 48 = dktX9_isCarriedOut_2 := dk_seg dksX9_isCarriedOut_1 24 rfl rfl
theorem dksX9_isCarriedOut_3 : cX9_isCarriedOut.data.toList.drop 72 = dktX9_isCarriedOut_3 := dk_seg dksX9_isCarriedOut_2 24 rfl rfl
theorem dX9_isCarriedOut_0 : decode cX9_isCarriedOut 0 = .ok (.aload_n 0, 1) := dk_42 (dk_at dksX9_isCarriedOut_0 0 rfl rfl)
theorem dX9_isCarriedOut_1 : decode cX9_isCarriedOut 1 = .ok (.getfield 9, 3) := dk_180 0 9 (dk_at dksX9_isCarriedOut_0 1 rfl rfl)
theorem dX9_isCarriedOut_4 : decode cX9_isCarriedOut 4 = .ok (.ldc 25, 2) := dk_18 25 (dk_at dksX9_isCarriedOut_0 4 rfl rfl)
theorem dX9_isCarriedOut_6 : decode cX9_isCarriedOut 6 = .ok (.invokevirtual 27, 3) := dk_182 0 27 (dk_at dksX9_isCarriedOut_0 6 rfl rfl)
theorem dX9_isCarriedOut_9 : decode cX9_isCarriedOut 9 = .ok (.ifCond .ne 39, 3) := dk_154 0 39 (dk_at dksX9_isCarriedOut_0 9 rfl rfl)
theorem dX9_isCarriedOut_12 : decode cX9_isCarriedOut 12 = .ok (.aload_n 0, 1) := dk_42 (dk_at dksX9_isCarriedOut_0 12 rfl rfl)
theorem dX9_isCarriedOut_13 : decode cX9_isCarriedOut 13 = .ok (.getfield 9, 3) := dk_180 0 9 (dk_at dksX9_isCarriedOut_0 13 rfl rfl)
theorem dX9_isCarriedOut_16 : decode cX9_isCarriedOut 16 = .ok (.ldc 31, 2) := dk_18 31 (dk_at dksX9_isCarriedOut_0 16 rfl rfl)
theorem dX9_isCarriedOut_18 : decode cX9_isCarriedOut 18 = .ok (.invokevirtual 27, 3) := dk_182 0 27 (dk_at dksX9_isCarriedOut_0 18 rfl rfl)
theorem dX9_isCarriedOut_21 : decode cX9_isCarriedOut 21 = .ok (.ifCond .ne 27, 3) := dk_154 0 27 (dk_at dksX9_isCarriedOut_0 21 rfl rfl)
theorem dX9_isCarriedOut_24 : decode cX9_isCarriedOut 24 = .ok (.aload_n 0, 1) := dk_42 (dk_at dksX9_isCarriedOut_1 0 rfl rfl)
theorem dX9_isCarriedOut_25 : decode cX9_isCarriedOut 25 = .ok (.getfield 9, 3) := dk_180 0 9 (dk_at dksX9_isCarriedOut_1 1 rfl rfl)
theorem dX9_isCarriedOut_28 : decode cX9_isCarriedOut 28 = .ok (.ldc 33, 2) := dk_18 33 (dk_at dksX9_isCarriedOut_1 4 rfl rfl)
theorem dX9_isCarriedOut_30 : decode cX9_isCarriedOut 30 = .ok (.invokevirtual 27, 3) := dk_182 0 27 (dk_at dksX9_isCarriedOut_1 6 rfl rfl)
theorem dX9_isCarriedOut_33 : decode cX9_isCarriedOut 33 = .ok (.ifCond .ne 15, 3) := dk_154 0 15 (dk_at dksX9_isCarriedOut_1 9 rfl rfl)
theorem dX9_isCarriedOut_36 : decode cX9_isCarriedOut 36 = .ok (.aload_n 0, 1) := dk_42 (dk_at dksX9_isCarriedOut_1 12 rfl rfl)
theorem dX9_isCarriedOut_37 : decode cX9_isCarriedOut 37 = .ok (.getfield 9, 3) := dk_180 0 9 (dk_at dksX9_isCarriedOut_1 13 rfl rfl)
theorem dX9_isCarriedOut_40 : decode cX9_isCarriedOut 40 = .ok (.ldc 97, 2) := dk_18 97 (dk_at dksX9_isCarriedOut_1 16 rfl rfl)
theorem dX9_isCarriedOut_42 : decode cX9_isCarriedOut 42 = .ok (.invokevirtual 27, 3) := dk_182 0 27 (dk_at dksX9_isCarriedOut_1 18 rfl rfl)
theorem dX9_isCarriedOut_45 : decode cX9_isCarriedOut 45 = .ok (.ifCond .eq 7, 3) := dk_153 0 7 (dk_at dksX9_isCarriedOut_1 21 rfl rfl)
theorem dX9_isCarriedOut_48 : decode cX9_isCarriedOut 48 = .ok (.iconst 1, 1) := dk_4 (dk_at dksX9_isCarriedOut_2 0 rfl rfl)
theorem dX9_isCarriedOut_49 : decode cX9_isCarriedOut 49 = .ok (.goto 4, 3) := dk_167 0 4 (dk_at dksX9_isCarriedOut_2 1 rfl rfl)
theorem dX9_isCarriedOut_52 : decode cX9_isCarriedOut 52 = .ok (.iconst 0, 1) := dk_3 (dk_at dksX9_isCarriedOut_2 4 rfl rfl)
theorem dX9_isCarriedOut_53 : decode cX9_isCarriedOut 53 = .ok (.istore_n 2, 1) := dk_61 (dk_at dksX9_isCarriedOut_2 5 rfl rfl)
theorem dX9_isCarriedOut_54 : decode cX9_isCarriedOut 54 = .ok (.iload_n 2, 1) := dk_28 (dk_at dksX9_isCarriedOut_2 6 rfl rfl)
theorem dX9_isCarriedOut_55 : decode cX9_isCarriedOut 55 = .ok (.ifCond .eq 11, 3) := dk_153 0 11 (dk_at dksX9_isCarriedOut_2 7 rfl rfl)
theorem dX9_isCarriedOut_58 : decode cX9_isCarriedOut 58 = .ok (.aload_n 0, 1) := dk_42 (dk_at dksX9_isCarriedOut_2 10 rfl rfl)
theorem dX9_isCarriedOut_59 : decode cX9_isCarriedOut 59 = .ok (.aload_n 1, 1) := dk_43 (dk_at dksX9_isCarriedOut_2 11 rfl rfl)
theorem dX9_isCarriedOut_60 : decode cX9_isCarriedOut 60 = .ok (.invokevirtual 99, 3) := dk_182 0 99 (dk_at dksX9_isCarriedOut_2 12 rfl rfl)
theorem dX9_isCarriedOut_63 : decode cX9_isCarriedOut 63 = .ok (.goto 8, 3) := dk_167 0 8 (dk_at dksX9_isCarriedOut_2 15 rfl rfl)
theorem dX9_isCarriedOut_66 : decode cX9_isCarriedOut 66 = .ok (.aload_n 0, 1) := dk_42 (dk_at dksX9_isCarriedOut_2 18 rfl rfl)
theorem dX9_isCarriedOut_67 : decode cX9_isCarriedOut 67 = .ok (.aload_n 1, 1) := dk_43 (dk_at dksX9_isCarriedOut_2 19 rfl rfl)
theorem dX9_isCarriedOut_68 : decode cX9_isCarriedOut 68 = .ok (.invokevirtual 103, 3) := dk_182 0 103 (dk_at dksX9_isCarriedOut_2 20 rfl rfl)
theorem dX9_isCarriedOut_71 : decode cX9_isCarriedOut 71 = .ok (.ireturn, 1) := dk_172 (dk_at dksX9_isCarriedOut_2 23 rfl rfl)
theorem dX9_isCarriedOut_72 : decode cX9_isCarriedOut 72 = .ok (.astore_n 3, 1) := dk_78 (dk_at dksX9_isCarriedOut_3 0 rfl rfl)
theorem dX9_isCarriedOut_73 : decode cX9_isCarriedOut 73 = .ok (.iconst 0, 1) := dk_3 (dk_at dksX9_isCarriedOut_3 1 rfl rfl)
theorem dX9_isCarriedOut_74 : decode cX9_isCarriedOut 74 = .ok (.ireturn, 1) := dk_172 (dk_at dksX9_isCarriedOut_3 2 rfl rfl)
abbrev cX9_isWalked : ByteArray := prog_2_method_2_code
def yX9_isWalked : MethodName := ⟨RX9, "isWalked", "(LParityMaze$Maze;)Z"⟩
def dkwX9_isWalked_8 : List UInt8 := [182, 0, 35, 153, 0, 15, 43, 28, 182, 0, 58, 155, 0, 7, 4, 167, 0, 4, 3, 172]
abbrev dktX9_isWalked_8 : List UInt8 := dkwX9_isWalked_8 ++ []
def dkwX9_isWalked_7 : List UInt8 := [184, 0, 52, 153, 0, 15, 43, 28, 182, 0, 55, 155, 0, 7, 4, 167, 0, 4, 3, 172, 43, 28]
abbrev dktX9_isWalked_7 : List UInt8 := dkwX9_isWalked_7 ++ dktX9_isWalked_8
def dkwX9_isWalked_6 : List UInt8 := [16, 50, 184, 0, 45, 153, 0, 15, 43, 28, 182, 0, 49, 155, 0, 7, 4, 167, 0, 4, 3, 172, 28]
abbrev dktX9_isWalked_6 : List UInt8 := dkwX9_isWalked_6 ++ dktX9_isWalked_7
def dkwX9_isWalked_5 : List UInt8 := [43, 28, 182, 0, 35, 153, 0, 15, 43, 28, 182, 0, 41, 155, 0, 7, 4, 167, 0, 4, 3, 172, 28, 4]
abbrev dktX9_isWalked_5 : List UInt8 := dkwX9_isWalked_5 ++ dktX9_isWalked_6
def dkwX9_isWalked_4 : List UInt8 := [170, 0, 0, 0, 0, 0, 0, 95, 0, 0, 0, 0, 0, 0, 0, 2, 0, 0, 0, 28, 0, 0, 0, 50, 0, 0, 0, 74]
abbrev dktX9_isWalked_4 : List UInt8 := dkwX9_isWalked_4 ++ dktX9_isWalked_5
def dkwX9_isWalked_3 : List UInt8 := [4, 54, 4, 167, 0, 15, 45, 18, 33, 182, 0, 27, 153, 0, 6, 5, 54, 4, 21, 4]
abbrev dktX9_isWalked_3 : List UInt8 := dkwX9_isWalked_3 ++ dktX9_isWalked_4
def dkwX9_isWalked_2 : List UInt8 := [45, 18, 25, 182, 0, 27, 153, 0, 36, 3, 54, 4, 167, 0, 30, 45, 18, 31, 182, 0, 27, 153, 0, 21]
abbrev dktX9_isWalked_2 : List UInt8 := dkwX9_isWalked_2 ++ dktX9_isWalked_3
def dkwX9_isWalked_1 : List UInt8 := [171, 0, 0, 0, 75, 0, 0, 0, 3, 0, 1, 144, 56, 0, 0, 0, 33, 6, 144, 92, 121, 0, 0, 0, 63, 6, 186, 157, 75, 0, 0, 0, 48]
abbrev dktX9_isWalked_1 : List UInt8 := dkwX9_isWalked_1 ++ dktX9_isWalked_2
def dkwX9_isWalked_0 : List UInt8 := [42, 180, 0, 15, 3, 46, 61, 42, 180, 0, 9, 78, 2, 54, 4, 45, 182, 0, 19]
abbrev dktX9_isWalked_0 : List UInt8 := dkwX9_isWalked_0 ++ dktX9_isWalked_1
theorem dksX9_isWalked_0 : cX9_isWalked.data.toList.drop 0 = dktX9_isWalked_0 := by decide +kernel
theorem dksX9_isWalked_1 : cX9_isWalked.data.toList.drop 19 = dktX9_isWalked_1 := dk_seg dksX9_isWalked_0 19 rfl rfl
theorem dksX9_isWalked_2 : cX9_isWalked.data.toList.drop 52 = dktX9_isWalked_2 := dk_seg dksX9_isWalked_1 33 rfl rfl
theorem dksX9_isWalked_3 : cX9_isWalked.data.toList.drop 76 = dktX9_isWalked_3 := dk_seg dksX9_isWalked_2 24 rfl rfl
theorem dksX9_isWalked_4 : cX9_isWalked.data.toList.drop 96 = dktX9_isWalked_4 := dk_seg dksX9_isWalked_3 20 rfl rfl
theorem dksX9_isWalked_5 : cX9_isWalked.data.toList.drop 124 = dktX9_isWalked_5 := dk_seg dksX9_isWalked_4 28 rfl rfl
theorem dksX9_isWalked_6 : cX9_isWalked.data.toList.drop 148 = dktX9_isWalked_6 := dk_seg dksX9_isWalked_5 24 rfl rfl
theorem dksX9_isWalked_7 : cX9_isWalked.data.toList.drop 171 = dktX9_isWalked_7 := dk_seg dksX9_isWalked_6 23 rfl rfl
theorem dksX9_isWalked_8 : cX9_isWalked.data.toList.drop 193 = dktX9_isWalked_8 := dk_seg dksX9_isWalked_7 22 rfl rfl
theorem dX9_isWalked_0 : decode cX9_isWalked 0 = .ok (.aload_n 0, 1) := dk_42 (dk_at dksX9_isWalked_0 0 rfl rfl)
theorem dX9_isWalked_1 : decode cX9_isWalked 1 = .ok (.getfield 15, 3) := dk_180 0 15 (dk_at dksX9_isWalked_0 1 rfl rfl)
theorem dX9_isWalked_4 : decode cX9_isWalked 4 = .ok (.iconst 0, 1) := dk_3 (dk_at dksX9_isWalked_0 4 rfl rfl)
theorem dX9_isWalked_5 : decode cX9_isWalked 5 = .ok (.iaload, 1) := dk_46 (dk_at dksX9_isWalked_0 5 rfl rfl)
theorem dX9_isWalked_6 : decode cX9_isWalked 6 = .ok (.istore_n 2, 1) := dk_61 (dk_at dksX9_isWalked_0 6 rfl rfl)
theorem dX9_isWalked_7 : decode cX9_isWalked 7 = .ok (.aload_n 0, 1) := dk_42 (dk_at dksX9_isWalked_0 7 rfl rfl)
theorem dX9_isWalked_8 : decode cX9_isWalked 8 = .ok (.getfield 9, 3) := dk_180 0 9 (dk_at dksX9_isWalked_0 8 rfl rfl)
theorem dX9_isWalked_11 : decode cX9_isWalked 11 = .ok (.astore_n 3, 1) := dk_78 (dk_at dksX9_isWalked_0 11 rfl rfl)
theorem dX9_isWalked_12 : decode cX9_isWalked 12 = .ok (.iconst (-1), 1) := dk_2 (dk_at dksX9_isWalked_0 12 rfl rfl)
theorem dX9_isWalked_13 : decode cX9_isWalked 13 = .ok (.istore 4, 2) := dk_54 4 (dk_at dksX9_isWalked_0 13 rfl rfl)
theorem dX9_isWalked_15 : decode cX9_isWalked 15 = .ok (.aload_n 3, 1) := dk_45 (dk_at dksX9_isWalked_0 15 rfl rfl)
theorem dX9_isWalked_16 : decode cX9_isWalked 16 = .ok (.invokevirtual 19, 3) := dk_182 0 19 (dk_at dksX9_isWalked_0 16 rfl rfl)
theorem dX9_isWalked_19 : decode cX9_isWalked 19 = .ok (.lookupswitch 75 #[(102456, 33), (110124153, 63), (112893259, 48)], 33) := by decide +kernel
theorem dX9_isWalked_52 : decode cX9_isWalked 52 = .ok (.aload_n 3, 1) := dk_45 (dk_at dksX9_isWalked_2 0 rfl rfl)
theorem dX9_isWalked_53 : decode cX9_isWalked 53 = .ok (.ldc 25, 2) := dk_18 25 (dk_at dksX9_isWalked_2 1 rfl rfl)
theorem dX9_isWalked_55 : decode cX9_isWalked 55 = .ok (.invokevirtual 27, 3) := dk_182 0 27 (dk_at dksX9_isWalked_2 3 rfl rfl)
theorem dX9_isWalked_58 : decode cX9_isWalked 58 = .ok (.ifCond .eq 36, 3) := dk_153 0 36 (dk_at dksX9_isWalked_2 6 rfl rfl)
theorem dX9_isWalked_61 : decode cX9_isWalked 61 = .ok (.iconst 0, 1) := dk_3 (dk_at dksX9_isWalked_2 9 rfl rfl)
theorem dX9_isWalked_62 : decode cX9_isWalked 62 = .ok (.istore 4, 2) := dk_54 4 (dk_at dksX9_isWalked_2 10 rfl rfl)
theorem dX9_isWalked_64 : decode cX9_isWalked 64 = .ok (.goto 30, 3) := dk_167 0 30 (dk_at dksX9_isWalked_2 12 rfl rfl)
theorem dX9_isWalked_67 : decode cX9_isWalked 67 = .ok (.aload_n 3, 1) := dk_45 (dk_at dksX9_isWalked_2 15 rfl rfl)
theorem dX9_isWalked_68 : decode cX9_isWalked 68 = .ok (.ldc 31, 2) := dk_18 31 (dk_at dksX9_isWalked_2 16 rfl rfl)
theorem dX9_isWalked_70 : decode cX9_isWalked 70 = .ok (.invokevirtual 27, 3) := dk_182 0 27 (dk_at dksX9_isWalked_2 18 rfl rfl)
theorem dX9_isWalked_73 : decode cX9_isWalked 73 = .ok (.ifCond .eq 21, 3) := dk_153 0 21 (dk_at dksX9_isWalked_2 21 rfl rfl)
theorem dX9_isWalked_76 : decode cX9_isWalked 76 = .ok (.iconst 1, 1) := dk_4 (dk_at dksX9_isWalked_3 0 rfl rfl)
theorem dX9_isWalked_77 : decode cX9_isWalked 77 = .ok (.istore 4, 2) := dk_54 4 (dk_at dksX9_isWalked_3 1 rfl rfl)
theorem dX9_isWalked_79 : decode cX9_isWalked 79 = .ok (.goto 15, 3) := dk_167 0 15 (dk_at dksX9_isWalked_3 3 rfl rfl)
theorem dX9_isWalked_82 : decode cX9_isWalked 82 = .ok (.aload_n 3, 1) := dk_45 (dk_at dksX9_isWalked_3 6 rfl rfl)
theorem dX9_isWalked_83 : decode cX9_isWalked 83 = .ok (.ldc 33, 2) := dk_18 33 (dk_at dksX9_isWalked_3 7 rfl rfl)
theorem dX9_isWalked_85 : decode cX9_isWalked 85 = .ok (.invokevirtual 27, 3) := dk_182 0 27 (dk_at dksX9_isWalked_3 9 rfl rfl)
theorem dX9_isWalked_88 : decode cX9_isWalked 88 = .ok (.ifCond .eq 6, 3) := dk_153 0 6 (dk_at dksX9_isWalked_3 12 rfl rfl)
theorem dX9_isWalked_91 : decode cX9_isWalked 91 = .ok (.iconst 2, 1) := dk_5 (dk_at dksX9_isWalked_3 15 rfl rfl)
theorem dX9_isWalked_92 : decode cX9_isWalked 92 = .ok (.istore 4, 2) := dk_54 4 (dk_at dksX9_isWalked_3 16 rfl rfl)
theorem dX9_isWalked_94 : decode cX9_isWalked 94 = .ok (.iload 4, 2) := dk_21 4 (dk_at dksX9_isWalked_3 18 rfl rfl)
theorem dX9_isWalked_96 : decode cX9_isWalked 96 = .ok (.tableswitch 95 0 2 #[28, 50, 74], 28) := by decide +kernel
theorem dX9_isWalked_124 : decode cX9_isWalked 124 = .ok (.aload_n 1, 1) := dk_43 (dk_at dksX9_isWalked_5 0 rfl rfl)
theorem dX9_isWalked_125 : decode cX9_isWalked 125 = .ok (.iload_n 2, 1) := dk_28 (dk_at dksX9_isWalked_5 1 rfl rfl)
theorem dX9_isWalked_126 : decode cX9_isWalked 126 = .ok (.invokevirtual 35, 3) := dk_182 0 35 (dk_at dksX9_isWalked_5 2 rfl rfl)
theorem dX9_isWalked_129 : decode cX9_isWalked 129 = .ok (.ifCond .eq 15, 3) := dk_153 0 15 (dk_at dksX9_isWalked_5 5 rfl rfl)
theorem dX9_isWalked_132 : decode cX9_isWalked 132 = .ok (.aload_n 1, 1) := dk_43 (dk_at dksX9_isWalked_5 8 rfl rfl)
theorem dX9_isWalked_133 : decode cX9_isWalked 133 = .ok (.iload_n 2, 1) := dk_28 (dk_at dksX9_isWalked_5 9 rfl rfl)
theorem dX9_isWalked_134 : decode cX9_isWalked 134 = .ok (.invokevirtual 41, 3) := dk_182 0 41 (dk_at dksX9_isWalked_5 10 rfl rfl)
theorem dX9_isWalked_137 : decode cX9_isWalked 137 = .ok (.ifCond .lt 7, 3) := dk_155 0 7 (dk_at dksX9_isWalked_5 13 rfl rfl)
theorem dX9_isWalked_140 : decode cX9_isWalked 140 = .ok (.iconst 1, 1) := dk_4 (dk_at dksX9_isWalked_5 16 rfl rfl)
theorem dX9_isWalked_141 : decode cX9_isWalked 141 = .ok (.goto 4, 3) := dk_167 0 4 (dk_at dksX9_isWalked_5 17 rfl rfl)
theorem dX9_isWalked_144 : decode cX9_isWalked 144 = .ok (.iconst 0, 1) := dk_3 (dk_at dksX9_isWalked_5 20 rfl rfl)
theorem dX9_isWalked_145 : decode cX9_isWalked 145 = .ok (.ireturn, 1) := dk_172 (dk_at dksX9_isWalked_5 21 rfl rfl)
theorem dX9_isWalked_146 : decode cX9_isWalked 146 = .ok (.iload_n 2, 1) := dk_28 (dk_at dksX9_isWalked_5 22 rfl rfl)
theorem dX9_isWalked_147 : decode cX9_isWalked 147 = .ok (.iconst 1, 1) := dk_4 (dk_at dksX9_isWalked_5 23 rfl rfl)
theorem dX9_isWalked_148 : decode cX9_isWalked 148 = .ok (.bipush 50, 2) := dk_16 50 (dk_at dksX9_isWalked_6 0 rfl rfl)
theorem dX9_isWalked_150 : decode cX9_isWalked 150 = .ok (.invokestatic 45, 3) := dk_184 0 45 (dk_at dksX9_isWalked_6 2 rfl rfl)
theorem dX9_isWalked_153 : decode cX9_isWalked 153 = .ok (.ifCond .eq 15, 3) := dk_153 0 15 (dk_at dksX9_isWalked_6 5 rfl rfl)
theorem dX9_isWalked_156 : decode cX9_isWalked 156 = .ok (.aload_n 1, 1) := dk_43 (dk_at dksX9_isWalked_6 8 rfl rfl)
theorem dX9_isWalked_157 : decode cX9_isWalked 157 = .ok (.iload_n 2, 1) := dk_28 (dk_at dksX9_isWalked_6 9 rfl rfl)
theorem dX9_isWalked_158 : decode cX9_isWalked 158 = .ok (.invokevirtual 49, 3) := dk_182 0 49 (dk_at dksX9_isWalked_6 10 rfl rfl)
theorem dX9_isWalked_161 : decode cX9_isWalked 161 = .ok (.ifCond .lt 7, 3) := dk_155 0 7 (dk_at dksX9_isWalked_6 13 rfl rfl)
theorem dX9_isWalked_164 : decode cX9_isWalked 164 = .ok (.iconst 1, 1) := dk_4 (dk_at dksX9_isWalked_6 16 rfl rfl)
theorem dX9_isWalked_165 : decode cX9_isWalked 165 = .ok (.goto 4, 3) := dk_167 0 4 (dk_at dksX9_isWalked_6 17 rfl rfl)
theorem dX9_isWalked_168 : decode cX9_isWalked 168 = .ok (.iconst 0, 1) := dk_3 (dk_at dksX9_isWalked_6 20 rfl rfl)
theorem dX9_isWalked_169 : decode cX9_isWalked 169 = .ok (.ireturn, 1) := dk_172 (dk_at dksX9_isWalked_6 21 rfl rfl)
theorem dX9_isWalked_170 : decode cX9_isWalked 170 = .ok (.iload_n 2, 1) := dk_28 (dk_at dksX9_isWalked_6 22 rfl rfl)
theorem dX9_isWalked_171 : decode cX9_isWalked 171 = .ok (.invokestatic 52, 3) := dk_184 0 52 (dk_at dksX9_isWalked_7 0 rfl rfl)
theorem dX9_isWalked_174 : decode cX9_isWalked 174 = .ok (.ifCond .eq 15, 3) := dk_153 0 15 (dk_at dksX9_isWalked_7 3 rfl rfl)
theorem dX9_isWalked_177 : decode cX9_isWalked 177 = .ok (.aload_n 1, 1) := dk_43 (dk_at dksX9_isWalked_7 6 rfl rfl)
theorem dX9_isWalked_178 : decode cX9_isWalked 178 = .ok (.iload_n 2, 1) := dk_28 (dk_at dksX9_isWalked_7 7 rfl rfl)
theorem dX9_isWalked_179 : decode cX9_isWalked 179 = .ok (.invokevirtual 55, 3) := dk_182 0 55 (dk_at dksX9_isWalked_7 8 rfl rfl)
theorem dX9_isWalked_182 : decode cX9_isWalked 182 = .ok (.ifCond .lt 7, 3) := dk_155 0 7 (dk_at dksX9_isWalked_7 11 rfl rfl)
theorem dX9_isWalked_185 : decode cX9_isWalked 185 = .ok (.iconst 1, 1) := dk_4 (dk_at dksX9_isWalked_7 14 rfl rfl)
theorem dX9_isWalked_186 : decode cX9_isWalked 186 = .ok (.goto 4, 3) := dk_167 0 4 (dk_at dksX9_isWalked_7 15 rfl rfl)
theorem dX9_isWalked_189 : decode cX9_isWalked 189 = .ok (.iconst 0, 1) := dk_3 (dk_at dksX9_isWalked_7 18 rfl rfl)
theorem dX9_isWalked_190 : decode cX9_isWalked 190 = .ok (.ireturn, 1) := dk_172 (dk_at dksX9_isWalked_7 19 rfl rfl)
theorem dX9_isWalked_191 : decode cX9_isWalked 191 = .ok (.aload_n 1, 1) := dk_43 (dk_at dksX9_isWalked_7 20 rfl rfl)
theorem dX9_isWalked_192 : decode cX9_isWalked 192 = .ok (.iload_n 2, 1) := dk_28 (dk_at dksX9_isWalked_7 21 rfl rfl)
theorem dX9_isWalked_193 : decode cX9_isWalked 193 = .ok (.invokevirtual 35, 3) := dk_182 0 35 (dk_at dksX9_isWalked_8 0 rfl rfl)
theorem dX9_isWalked_196 : decode cX9_isWalked 196 = .ok (.ifCond .eq 15, 3) := dk_153 0 15 (dk_at dksX9_isWalked_8 3 rfl rfl)
theorem dX9_isWalked_199 : decode cX9_isWalked 199 = .ok (.aload_n 1, 1) := dk_43 (dk_at dksX9_isWalked_8 6 rfl rfl)
theorem dX9_isWalked_200 : decode cX9_isWalked 200 = .ok (.iload_n 2, 1) := dk_28 (dk_at dksX9_isWalked_8 7 rfl rfl)
theorem dX9_isWalked_201 : decode cX9_isWalked 201 = .ok (.invokevirtual 58, 3) := dk_182 0 58 (dk_at dksX9_isWalked_8 8 rfl rfl)
theorem dX9_isWalked_204 : decode cX9_isWalked 204 = .ok (.ifCond .lt 7, 3) := dk_155 0 7 (dk_at dksX9_isWalked_8 11 rfl rfl)
theorem dX9_isWalked_207 : decode cX9_isWalked 207 = .ok (.iconst 1, 1) := dk_4 (dk_at dksX9_isWalked_8 14 rfl rfl)
theorem dX9_isWalked_208 : decode cX9_isWalked 208 = .ok (.goto 4, 3) := dk_167 0 4 (dk_at dksX9_isWalked_8 15 rfl rfl)
theorem dX9_isWalked_211 : decode cX9_isWalked 211 = .ok (.iconst 0, 1) := dk_3 (dk_at dksX9_isWalked_8 18 rfl rfl)
theorem dX9_isWalked_212 : decode cX9_isWalked 212 = .ok (.ireturn, 1) := dk_172 (dk_at dksX9_isWalked_8 19 rfl rfl)
abbrev cX9_isBuilt : ByteArray := prog_2_method_3_code
def yX9_isBuilt : MethodName := ⟨RX9, "isBuilt", "(LParityMaze$Maze;)Z"⟩
def dkwX9_isBuilt_12 : List UInt8 := [180, 0, 15, 5, 46, 42, 180, 0, 15, 6, 46, 182, 0, 93, 155, 0, 7, 4, 167, 0, 4, 3, 172]
abbrev dktX9_isBuilt_12 : List UInt8 := dkwX9_isBuilt_12 ++ []
def dkwX9_isBuilt_11 : List UInt8 := [153, 0, 7, 4, 167, 0, 4, 3, 54, 5, 21, 5, 153, 0, 33, 43, 28, 42, 180, 0, 15, 4, 46, 42]
abbrev dktX9_isBuilt_11 : List UInt8 := dkwX9_isBuilt_11 ++ dktX9_isBuilt_12
def dkwX9_isBuilt_10 : List UInt8 := [153, 0, 31, 42, 180, 0, 15, 5, 46, 184, 0, 87, 153, 0, 19, 42, 180, 0, 15, 6, 46, 184, 0, 90]
abbrev dktX9_isBuilt_10 : List UInt8 := dkwX9_isBuilt_10 ++ dktX9_isBuilt_11
def dkwX9_isBuilt_9 : List UInt8 := [182, 0, 80, 155, 0, 7, 4, 167, 0, 4, 3, 172, 43, 28, 42, 180, 0, 15, 4, 46, 182, 0, 83]
abbrev dktX9_isBuilt_9 : List UInt8 := dkwX9_isBuilt_9 ++ dktX9_isBuilt_10
def dkwX9_isBuilt_8 : List UInt8 := [153, 0, 33, 42, 180, 0, 15, 4, 46, 184, 0, 52, 153, 0, 21, 43, 28, 42, 180, 0, 15, 4, 46]
abbrev dktX9_isBuilt_8 : List UInt8 := dkwX9_isBuilt_8 ++ dktX9_isBuilt_9
def dkwX9_isBuilt_7 : List UInt8 := [153, 0, 15, 43, 28, 182, 0, 77, 155, 0, 7, 4, 167, 0, 4, 3, 172, 43, 28, 182, 0, 67]
abbrev dktX9_isBuilt_7 : List UInt8 := dkwX9_isBuilt_7 ++ dktX9_isBuilt_8
def dkwX9_isBuilt_6 : List UInt8 := [28, 42, 180, 0, 15, 4, 46, 182, 0, 70, 155, 0, 7, 4, 167, 0, 4, 3, 172, 28, 184, 0, 74]
abbrev dktX9_isBuilt_6 : List UInt8 := dkwX9_isBuilt_6 ++ dktX9_isBuilt_7
def dkwX9_isBuilt_5 : List UInt8 := [43, 28, 182, 0, 67, 153, 0, 36, 42, 180, 0, 15, 4, 46, 4, 16, 50, 184, 0, 45, 153, 0, 21, 43]
abbrev dktX9_isBuilt_5 : List UInt8 := dkwX9_isBuilt_5 ++ dktX9_isBuilt_6
def dkwX9_isBuilt_4 : List UInt8 := [170, 0, 0, 0, 0, 0, 0, 132, 0, 0, 0, 0, 0, 0, 0, 2, 0, 0, 0, 28, 0, 0, 0, 71, 0, 0, 0, 92]
abbrev dktX9_isBuilt_4 : List UInt8 := dkwX9_isBuilt_4 ++ dktX9_isBuilt_5
def dkwX9_isBuilt_3 : List UInt8 := [4, 54, 4, 167, 0, 15, 45, 18, 65, 182, 0, 27, 153, 0, 6, 5, 54, 4, 21, 4]
abbrev dktX9_isBuilt_3 : List UInt8 := dkwX9_isBuilt_3 ++ dktX9_isBuilt_4
def dkwX9_isBuilt_2 : List UInt8 := [45, 18, 61, 182, 0, 27, 153, 0, 36, 3, 54, 4, 167, 0, 30, 45, 18, 63, 182, 0, 27, 153, 0, 21]
abbrev dktX9_isBuilt_2 : List UInt8 := dkwX9_isBuilt_2 ++ dktX9_isBuilt_3
def dkwX9_isBuilt_1 : List UInt8 := [171, 0, 0, 0, 75, 0, 0, 0, 3, 0, 50, 45, 161, 0, 0, 0, 63, 0, 52, 12, 142, 0, 0, 0, 33, 6, 122, 154, 165, 0, 0, 0, 48]
abbrev dktX9_isBuilt_1 : List UInt8 := dkwX9_isBuilt_1 ++ dktX9_isBuilt_2
def dkwX9_isBuilt_0 : List UInt8 := [42, 180, 0, 15, 3, 46, 61, 42, 180, 0, 9, 78, 2, 54, 4, 45, 182, 0, 19]
abbrev dktX9_isBuilt_0 : List UInt8 := dkwX9_isBuilt_0 ++ dktX9_isBuilt_1
theorem dksX9_isBuilt_0 : cX9_isBuilt.data.toList.drop 0 = dktX9_isBuilt_0 := by decide +kernel
theorem dksX9_isBuilt_1 : cX9_isBuilt.data.toList.drop 19 = dktX9_isBuilt_1 := dk_seg dksX9_isBuilt_0 19 rfl rfl
theorem dksX9_isBuilt_2 : cX9_isBuilt.data.toList.drop 52 = dktX9_isBuilt_2 := dk_seg dksX9_isBuilt_1 33 rfl rfl
theorem dksX9_isBuilt_3 : cX9_isBuilt.data.toList.drop 76 = dktX9_isBuilt_3 := dk_seg dksX9_isBuilt_2 24 rfl rfl
theorem dksX9_isBuilt_4 : cX9_isBuilt.data.toList.drop 96 = dktX9_isBuilt_4 := dk_seg dksX9_isBuilt_3 20 rfl rfl
theorem dksX9_isBuilt_5 : cX9_isBuilt.data.toList.drop 124 = dktX9_isBuilt_5 := dk_seg dksX9_isBuilt_4 28 rfl rfl
theorem dksX9_isBuilt_6 : cX9_isBuilt.data.toList.drop 148 = dktX9_isBuilt_6 := dk_seg dksX9_isBuilt_5 24 rfl rfl
theorem dksX9_isBuilt_7 : cX9_isBuilt.data.toList.drop 171 = dktX9_isBuilt_7 := dk_seg dksX9_isBuilt_6 23 rfl rfl
theorem dksX9_isBuilt_8 : cX9_isBuilt.data.toList.drop 193 = dktX9_isBuilt_8 := dk_seg dksX9_isBuilt_7 22 rfl rfl
theorem dksX9_isBuilt_9 : cX9_isBuilt.data.toList.drop 216 = dktX9_isBuilt_9 := dk_seg dksX9_isBuilt_8 23 rfl rfl
theorem dksX9_isBuilt_10 : cX9_isBuilt.data.toList.drop 239 = dktX9_isBuilt_10 := dk_seg dksX9_isBuilt_9 23 rfl rfl
theorem dksX9_isBuilt_11 : cX9_isBuilt.data.toList.drop 263 = dktX9_isBuilt_11 := dk_seg dksX9_isBuilt_10 24 rfl rfl
theorem dksX9_isBuilt_12 : cX9_isBuilt.data.toList.drop 287 = dktX9_isBuilt_12 := dk_seg dksX9_isBuilt_11 24 rfl rfl
theorem dX9_isBuilt_0 : decode cX9_isBuilt 0 = .ok (.aload_n 0, 1) := dk_42 (dk_at dksX9_isBuilt_0 0 rfl rfl)
theorem dX9_isBuilt_1 : decode cX9_isBuilt 1 = .ok (.getfield 15, 3) := dk_180 0 15 (dk_at dksX9_isBuilt_0 1 rfl rfl)
theorem dX9_isBuilt_4 : decode cX9_isBuilt 4 = .ok (.iconst 0, 1) := dk_3 (dk_at dksX9_isBuilt_0 4 rfl rfl)
theorem dX9_isBuilt_5 : decode cX9_isBuilt 5 = .ok (.iaload, 1) := dk_46 (dk_at dksX9_isBuilt_0 5 rfl rfl)
theorem dX9_isBuilt_6 : decode cX9_isBuilt 6 = .ok (.istore_n 2, 1) := dk_61 (dk_at dksX9_isBuilt_0 6 rfl rfl)
theorem dX9_isBuilt_7 : decode cX9_isBuilt 7 = .ok (.aload_n 0, 1) := dk_42 (dk_at dksX9_isBuilt_0 7 rfl rfl)
theorem dX9_isBuilt_8 : decode cX9_isBuilt 8 = .ok (.getfield 9, 3) := dk_180 0 9 (dk_at dksX9_isBuilt_0 8 rfl rfl)
theorem dX9_isBuilt_11 : decode cX9_isBuilt 11 = .ok (.astore_n 3, 1) := dk_78 (dk_at dksX9_isBuilt_0 11 rfl rfl)
theorem dX9_isBuilt_12 : decode cX9_isBuilt 12 = .ok (.iconst (-1), 1) := dk_2 (dk_at dksX9_isBuilt_0 12 rfl rfl)
theorem dX9_isBuilt_13 : decode cX9_isBuilt 13 = .ok (.istore 4, 2) := dk_54 4 (dk_at dksX9_isBuilt_0 13 rfl rfl)
theorem dX9_isBuilt_15 : decode cX9_isBuilt 15 = .ok (.aload_n 3, 1) := dk_45 (dk_at dksX9_isBuilt_0 15 rfl rfl)
theorem dX9_isBuilt_16 : decode cX9_isBuilt 16 = .ok (.invokevirtual 19, 3) := dk_182 0 19 (dk_at dksX9_isBuilt_0 16 rfl rfl)
theorem dX9_isBuilt_19 : decode cX9_isBuilt 19 = .ok (.lookupswitch 75 #[(3288481, 63), (3411086, 33), (108698277, 48)], 33) := by decide +kernel
theorem dX9_isBuilt_52 : decode cX9_isBuilt 52 = .ok (.aload_n 3, 1) := dk_45 (dk_at dksX9_isBuilt_2 0 rfl rfl)
theorem dX9_isBuilt_53 : decode cX9_isBuilt 53 = .ok (.ldc 61, 2) := dk_18 61 (dk_at dksX9_isBuilt_2 1 rfl rfl)
theorem dX9_isBuilt_55 : decode cX9_isBuilt 55 = .ok (.invokevirtual 27, 3) := dk_182 0 27 (dk_at dksX9_isBuilt_2 3 rfl rfl)
theorem dX9_isBuilt_58 : decode cX9_isBuilt 58 = .ok (.ifCond .eq 36, 3) := dk_153 0 36 (dk_at dksX9_isBuilt_2 6 rfl rfl)
theorem dX9_isBuilt_61 : decode cX9_isBuilt 61 = .ok (.iconst 0, 1) := dk_3 (dk_at dksX9_isBuilt_2 9 rfl rfl)
theorem dX9_isBuilt_62 : decode cX9_isBuilt 62 = .ok (.istore 4, 2) := dk_54 4 (dk_at dksX9_isBuilt_2 10 rfl rfl)
theorem dX9_isBuilt_64 : decode cX9_isBuilt 64 = .ok (.goto 30, 3) := dk_167 0 30 (dk_at dksX9_isBuilt_2 12 rfl rfl)
theorem dX9_isBuilt_67 : decode cX9_isBuilt 67 = .ok (.aload_n 3, 1) := dk_45 (dk_at dksX9_isBuilt_2 15 rfl rfl)
theorem dX9_isBuilt_68 : decode cX9_isBuilt 68 = .ok (.ldc 63, 2) := dk_18 63 (dk_at dksX9_isBuilt_2 16 rfl rfl)
theorem dX9_isBuilt_70 : decode cX9_isBuilt 70 = .ok (.invokevirtual 27, 3) := dk_182 0 27 (dk_at dksX9_isBuilt_2 18 rfl rfl)
theorem dX9_isBuilt_73 : decode cX9_isBuilt 73 = .ok (.ifCond .eq 21, 3) := dk_153 0 21 (dk_at dksX9_isBuilt_2 21 rfl rfl)
theorem dX9_isBuilt_76 : decode cX9_isBuilt 76 = .ok (.iconst 1, 1) := dk_4 (dk_at dksX9_isBuilt_3 0 rfl rfl)
theorem dX9_isBuilt_77 : decode cX9_isBuilt 77 = .ok (.istore 4, 2) := dk_54 4 (dk_at dksX9_isBuilt_3 1 rfl rfl)
theorem dX9_isBuilt_79 : decode cX9_isBuilt 79 = .ok (.goto 15, 3) := dk_167 0 15 (dk_at dksX9_isBuilt_3 3 rfl rfl)
theorem dX9_isBuilt_82 : decode cX9_isBuilt 82 = .ok (.aload_n 3, 1) := dk_45 (dk_at dksX9_isBuilt_3 6 rfl rfl)
theorem dX9_isBuilt_83 : decode cX9_isBuilt 83 = .ok (.ldc 65, 2) := dk_18 65 (dk_at dksX9_isBuilt_3 7 rfl rfl)
theorem dX9_isBuilt_85 : decode cX9_isBuilt 85 = .ok (.invokevirtual 27, 3) := dk_182 0 27 (dk_at dksX9_isBuilt_3 9 rfl rfl)
theorem dX9_isBuilt_88 : decode cX9_isBuilt 88 = .ok (.ifCond .eq 6, 3) := dk_153 0 6 (dk_at dksX9_isBuilt_3 12 rfl rfl)
theorem dX9_isBuilt_91 : decode cX9_isBuilt 91 = .ok (.iconst 2, 1) := dk_5 (dk_at dksX9_isBuilt_3 15 rfl rfl)
theorem dX9_isBuilt_92 : decode cX9_isBuilt 92 = .ok (.istore 4, 2) := dk_54 4 (dk_at dksX9_isBuilt_3 16 rfl rfl)
theorem dX9_isBuilt_94 : decode cX9_isBuilt 94 = .ok (.iload 4, 2) := dk_21 4 (dk_at dksX9_isBuilt_3 18 rfl rfl)
theorem dX9_isBuilt_96 : decode cX9_isBuilt 96 = .ok (.tableswitch 132 0 2 #[28, 71, 92], 28) := by decide +kernel
theorem dX9_isBuilt_124 : decode cX9_isBuilt 124 = .ok (.aload_n 1, 1) := dk_43 (dk_at dksX9_isBuilt_5 0 rfl rfl)
theorem dX9_isBuilt_125 : decode cX9_isBuilt 125 = .ok (.iload_n 2, 1) := dk_28 (dk_at dksX9_isBuilt_5 1 rfl rfl)
theorem dX9_isBuilt_126 : decode cX9_isBuilt 126 = .ok (.invokevirtual 67, 3) := dk_182 0 67 (dk_at dksX9_isBuilt_5 2 rfl rfl)
theorem dX9_isBuilt_129 : decode cX9_isBuilt 129 = .ok (.ifCond .eq 36, 3) := dk_153 0 36 (dk_at dksX9_isBuilt_5 5 rfl rfl)
theorem dX9_isBuilt_132 : decode cX9_isBuilt 132 = .ok (.aload_n 0, 1) := dk_42 (dk_at dksX9_isBuilt_5 8 rfl rfl)
theorem dX9_isBuilt_133 : decode cX9_isBuilt 133 = .ok (.getfield 15, 3) := dk_180 0 15 (dk_at dksX9_isBuilt_5 9 rfl rfl)
theorem dX9_isBuilt_136 : decode cX9_isBuilt 136 = .ok (.iconst 1, 1) := dk_4 (dk_at dksX9_isBuilt_5 12 rfl rfl)
theorem dX9_isBuilt_137 : decode cX9_isBuilt 137 = .ok (.iaload, 1) := dk_46 (dk_at dksX9_isBuilt_5 13 rfl rfl)
theorem dX9_isBuilt_138 : decode cX9_isBuilt 138 = .ok (.iconst 1, 1) := dk_4 (dk_at dksX9_isBuilt_5 14 rfl rfl)
theorem dX9_isBuilt_139 : decode cX9_isBuilt 139 = .ok (.bipush 50, 2) := dk_16 50 (dk_at dksX9_isBuilt_5 15 rfl rfl)
theorem dX9_isBuilt_141 : decode cX9_isBuilt 141 = .ok (.invokestatic 45, 3) := dk_184 0 45 (dk_at dksX9_isBuilt_5 17 rfl rfl)
theorem dX9_isBuilt_144 : decode cX9_isBuilt 144 = .ok (.ifCond .eq 21, 3) := dk_153 0 21 (dk_at dksX9_isBuilt_5 20 rfl rfl)
theorem dX9_isBuilt_147 : decode cX9_isBuilt 147 = .ok (.aload_n 1, 1) := dk_43 (dk_at dksX9_isBuilt_5 23 rfl rfl)
theorem dX9_isBuilt_148 : decode cX9_isBuilt 148 = .ok (.iload_n 2, 1) := dk_28 (dk_at dksX9_isBuilt_6 0 rfl rfl)
theorem dX9_isBuilt_149 : decode cX9_isBuilt 149 = .ok (.aload_n 0, 1) := dk_42 (dk_at dksX9_isBuilt_6 1 rfl rfl)
theorem dX9_isBuilt_150 : decode cX9_isBuilt 150 = .ok (.getfield 15, 3) := dk_180 0 15 (dk_at dksX9_isBuilt_6 2 rfl rfl)
theorem dX9_isBuilt_153 : decode cX9_isBuilt 153 = .ok (.iconst 1, 1) := dk_4 (dk_at dksX9_isBuilt_6 5 rfl rfl)
theorem dX9_isBuilt_154 : decode cX9_isBuilt 154 = .ok (.iaload, 1) := dk_46 (dk_at dksX9_isBuilt_6 6 rfl rfl)
theorem dX9_isBuilt_155 : decode cX9_isBuilt 155 = .ok (.invokevirtual 70, 3) := dk_182 0 70 (dk_at dksX9_isBuilt_6 7 rfl rfl)
theorem dX9_isBuilt_158 : decode cX9_isBuilt 158 = .ok (.ifCond .lt 7, 3) := dk_155 0 7 (dk_at dksX9_isBuilt_6 10 rfl rfl)
theorem dX9_isBuilt_161 : decode cX9_isBuilt 161 = .ok (.iconst 1, 1) := dk_4 (dk_at dksX9_isBuilt_6 13 rfl rfl)
theorem dX9_isBuilt_162 : decode cX9_isBuilt 162 = .ok (.goto 4, 3) := dk_167 0 4 (dk_at dksX9_isBuilt_6 14 rfl rfl)
theorem dX9_isBuilt_165 : decode cX9_isBuilt 165 = .ok (.iconst 0, 1) := dk_3 (dk_at dksX9_isBuilt_6 17 rfl rfl)
theorem dX9_isBuilt_166 : decode cX9_isBuilt 166 = .ok (.ireturn, 1) := dk_172 (dk_at dksX9_isBuilt_6 18 rfl rfl)
theorem dX9_isBuilt_167 : decode cX9_isBuilt 167 = .ok (.iload_n 2, 1) := dk_28 (dk_at dksX9_isBuilt_6 19 rfl rfl)
theorem dX9_isBuilt_168 : decode cX9_isBuilt 168 = .ok (.invokestatic 74, 3) := dk_184 0 74 (dk_at dksX9_isBuilt_6 20 rfl rfl)
theorem dX9_isBuilt_171 : decode cX9_isBuilt 171 = .ok (.ifCond .eq 15, 3) := dk_153 0 15 (dk_at dksX9_isBuilt_7 0 rfl rfl)
theorem dX9_isBuilt_174 : decode cX9_isBuilt 174 = .ok (.aload_n 1, 1) := dk_43 (dk_at dksX9_isBuilt_7 3 rfl rfl)
theorem dX9_isBuilt_175 : decode cX9_isBuilt 175 = .ok (.iload_n 2, 1) := dk_28 (dk_at dksX9_isBuilt_7 4 rfl rfl)
theorem dX9_isBuilt_176 : decode cX9_isBuilt 176 = .ok (.invokevirtual 77, 3) := dk_182 0 77 (dk_at dksX9_isBuilt_7 5 rfl rfl)
theorem dX9_isBuilt_179 : decode cX9_isBuilt 179 = .ok (.ifCond .lt 7, 3) := dk_155 0 7 (dk_at dksX9_isBuilt_7 8 rfl rfl)
theorem dX9_isBuilt_182 : decode cX9_isBuilt 182 = .ok (.iconst 1, 1) := dk_4 (dk_at dksX9_isBuilt_7 11 rfl rfl)
theorem dX9_isBuilt_183 : decode cX9_isBuilt 183 = .ok (.goto 4, 3) := dk_167 0 4 (dk_at dksX9_isBuilt_7 12 rfl rfl)
theorem dX9_isBuilt_186 : decode cX9_isBuilt 186 = .ok (.iconst 0, 1) := dk_3 (dk_at dksX9_isBuilt_7 15 rfl rfl)
theorem dX9_isBuilt_187 : decode cX9_isBuilt 187 = .ok (.ireturn, 1) := dk_172 (dk_at dksX9_isBuilt_7 16 rfl rfl)
theorem dX9_isBuilt_188 : decode cX9_isBuilt 188 = .ok (.aload_n 1, 1) := dk_43 (dk_at dksX9_isBuilt_7 17 rfl rfl)
theorem dX9_isBuilt_189 : decode cX9_isBuilt 189 = .ok (.iload_n 2, 1) := dk_28 (dk_at dksX9_isBuilt_7 18 rfl rfl)
theorem dX9_isBuilt_190 : decode cX9_isBuilt 190 = .ok (.invokevirtual 67, 3) := dk_182 0 67 (dk_at dksX9_isBuilt_7 19 rfl rfl)
theorem dX9_isBuilt_193 : decode cX9_isBuilt 193 = .ok (.ifCond .eq 33, 3) := dk_153 0 33 (dk_at dksX9_isBuilt_8 0 rfl rfl)
theorem dX9_isBuilt_196 : decode cX9_isBuilt 196 = .ok (.aload_n 0, 1) := dk_42 (dk_at dksX9_isBuilt_8 3 rfl rfl)
theorem dX9_isBuilt_197 : decode cX9_isBuilt 197 = .ok (.getfield 15, 3) := dk_180 0 15 (dk_at dksX9_isBuilt_8 4 rfl rfl)
theorem dX9_isBuilt_200 : decode cX9_isBuilt 200 = .ok (.iconst 1, 1) := dk_4 (dk_at dksX9_isBuilt_8 7 rfl rfl)
theorem dX9_isBuilt_201 : decode cX9_isBuilt 201 = .ok (.iaload, 1) := dk_46 (dk_at dksX9_isBuilt_8 8 rfl rfl)
theorem dX9_isBuilt_202 : decode cX9_isBuilt 202 = .ok (.invokestatic 52, 3) := dk_184 0 52 (dk_at dksX9_isBuilt_8 9 rfl rfl)
theorem dX9_isBuilt_205 : decode cX9_isBuilt 205 = .ok (.ifCond .eq 21, 3) := dk_153 0 21 (dk_at dksX9_isBuilt_8 12 rfl rfl)
theorem dX9_isBuilt_208 : decode cX9_isBuilt 208 = .ok (.aload_n 1, 1) := dk_43 (dk_at dksX9_isBuilt_8 15 rfl rfl)
theorem dX9_isBuilt_209 : decode cX9_isBuilt 209 = .ok (.iload_n 2, 1) := dk_28 (dk_at dksX9_isBuilt_8 16 rfl rfl)
theorem dX9_isBuilt_210 : decode cX9_isBuilt 210 = .ok (.aload_n 0, 1) := dk_42 (dk_at dksX9_isBuilt_8 17 rfl rfl)
theorem dX9_isBuilt_211 : decode cX9_isBuilt 211 = .ok (.getfield 15, 3) := dk_180 0 15 (dk_at dksX9_isBuilt_8 18 rfl rfl)
theorem dX9_isBuilt_214 : decode cX9_isBuilt 214 = .ok (.iconst 1, 1) := dk_4 (dk_at dksX9_isBuilt_8 21 rfl rfl)
theorem dX9_isBuilt_215 : decode cX9_isBuilt 215 = .ok (.iaload, 1) := dk_46 (dk_at dksX9_isBuilt_8 22 rfl rfl)
theorem dX9_isBuilt_216 : decode cX9_isBuilt 216 = .ok (.invokevirtual 80, 3) := dk_182 0 80 (dk_at dksX9_isBuilt_9 0 rfl rfl)
theorem dX9_isBuilt_219 : decode cX9_isBuilt 219 = .ok (.ifCond .lt 7, 3) := dk_155 0 7 (dk_at dksX9_isBuilt_9 3 rfl rfl)
theorem dX9_isBuilt_222 : decode cX9_isBuilt 222 = .ok (.iconst 1, 1) := dk_4 (dk_at dksX9_isBuilt_9 6 rfl rfl)
theorem dX9_isBuilt_223 : decode cX9_isBuilt 223 = .ok (.goto 4, 3) := dk_167 0 4 (dk_at dksX9_isBuilt_9 7 rfl rfl)
theorem dX9_isBuilt_226 : decode cX9_isBuilt 226 = .ok (.iconst 0, 1) := dk_3 (dk_at dksX9_isBuilt_9 10 rfl rfl)
theorem dX9_isBuilt_227 : decode cX9_isBuilt 227 = .ok (.ireturn, 1) := dk_172 (dk_at dksX9_isBuilt_9 11 rfl rfl)
theorem dX9_isBuilt_228 : decode cX9_isBuilt 228 = .ok (.aload_n 1, 1) := dk_43 (dk_at dksX9_isBuilt_9 12 rfl rfl)
theorem dX9_isBuilt_229 : decode cX9_isBuilt 229 = .ok (.iload_n 2, 1) := dk_28 (dk_at dksX9_isBuilt_9 13 rfl rfl)
theorem dX9_isBuilt_230 : decode cX9_isBuilt 230 = .ok (.aload_n 0, 1) := dk_42 (dk_at dksX9_isBuilt_9 14 rfl rfl)
theorem dX9_isBuilt_231 : decode cX9_isBuilt 231 = .ok (.getfield 15, 3) := dk_180 0 15 (dk_at dksX9_isBuilt_9 15 rfl rfl)
theorem dX9_isBuilt_234 : decode cX9_isBuilt 234 = .ok (.iconst 1, 1) := dk_4 (dk_at dksX9_isBuilt_9 18 rfl rfl)
theorem dX9_isBuilt_235 : decode cX9_isBuilt 235 = .ok (.iaload, 1) := dk_46 (dk_at dksX9_isBuilt_9 19 rfl rfl)
theorem dX9_isBuilt_236 : decode cX9_isBuilt 236 = .ok (.invokevirtual 83, 3) := dk_182 0 83 (dk_at dksX9_isBuilt_9 20 rfl rfl)
theorem dX9_isBuilt_239 : decode cX9_isBuilt 239 = .ok (.ifCond .eq 31, 3) := dk_153 0 31 (dk_at dksX9_isBuilt_10 0 rfl rfl)
theorem dX9_isBuilt_242 : decode cX9_isBuilt 242 = .ok (.aload_n 0, 1) := dk_42 (dk_at dksX9_isBuilt_10 3 rfl rfl)
theorem dX9_isBuilt_243 : decode cX9_isBuilt 243 = .ok (.getfield 15, 3) := dk_180 0 15 (dk_at dksX9_isBuilt_10 4 rfl rfl)
theorem dX9_isBuilt_246 : decode cX9_isBuilt 246 = .ok (.iconst 2, 1) := dk_5 (dk_at dksX9_isBuilt_10 7 rfl rfl)
theorem dX9_isBuilt_247 : decode cX9_isBuilt 247 = .ok (.iaload, 1) := dk_46 (dk_at dksX9_isBuilt_10 8 rfl rfl)
theorem dX9_isBuilt_248 : decode cX9_isBuilt 248 = .ok (.invokestatic 87, 3) := dk_184 0 87 (dk_at dksX9_isBuilt_10 9 rfl rfl)
theorem dX9_isBuilt_251 : decode cX9_isBuilt 251 = .ok (.ifCond .eq 19, 3) := dk_153 0 19 (dk_at dksX9_isBuilt_10 12 rfl rfl)
theorem dX9_isBuilt_254 : decode cX9_isBuilt 254 = .ok (.aload_n 0, 1) := dk_42 (dk_at dksX9_isBuilt_10 15 rfl rfl)
theorem dX9_isBuilt_255 : decode cX9_isBuilt 255 = .ok (.getfield 15, 3) := dk_180 0 15 (dk_at dksX9_isBuilt_10 16 rfl rfl)
theorem dX9_isBuilt_258 : decode cX9_isBuilt 258 = .ok (.iconst 3, 1) := dk_6 (dk_at dksX9_isBuilt_10 19 rfl rfl)
theorem dX9_isBuilt_259 : decode cX9_isBuilt 259 = .ok (.iaload, 1) := dk_46 (dk_at dksX9_isBuilt_10 20 rfl rfl)
theorem dX9_isBuilt_260 : decode cX9_isBuilt 260 = .ok (.invokestatic 90, 3) := dk_184 0 90 (dk_at dksX9_isBuilt_10 21 rfl rfl)
theorem dX9_isBuilt_263 : decode cX9_isBuilt 263 = .ok (.ifCond .eq 7, 3) := dk_153 0 7 (dk_at dksX9_isBuilt_11 0 rfl rfl)
theorem dX9_isBuilt_266 : decode cX9_isBuilt 266 = .ok (.iconst 1, 1) := dk_4 (dk_at dksX9_isBuilt_11 3 rfl rfl)
theorem dX9_isBuilt_267 : decode cX9_isBuilt 267 = .ok (.goto 4, 3) := dk_167 0 4 (dk_at dksX9_isBuilt_11 4 rfl rfl)
theorem dX9_isBuilt_270 : decode cX9_isBuilt 270 = .ok (.iconst 0, 1) := dk_3 (dk_at dksX9_isBuilt_11 7 rfl rfl)
theorem dX9_isBuilt_271 : decode cX9_isBuilt 271 = .ok (.istore 5, 2) := dk_54 5 (dk_at dksX9_isBuilt_11 8 rfl rfl)
theorem dX9_isBuilt_273 : decode cX9_isBuilt 273 = .ok (.iload 5, 2) := dk_21 5 (dk_at dksX9_isBuilt_11 10 rfl rfl)
theorem dX9_isBuilt_275 : decode cX9_isBuilt 275 = .ok (.ifCond .eq 33, 3) := dk_153 0 33 (dk_at dksX9_isBuilt_11 12 rfl rfl)
theorem dX9_isBuilt_278 : decode cX9_isBuilt 278 = .ok (.aload_n 1, 1) := dk_43 (dk_at dksX9_isBuilt_11 15 rfl rfl)
theorem dX9_isBuilt_279 : decode cX9_isBuilt 279 = .ok (.iload_n 2, 1) := dk_28 (dk_at dksX9_isBuilt_11 16 rfl rfl)
theorem dX9_isBuilt_280 : decode cX9_isBuilt 280 = .ok (.aload_n 0, 1) := dk_42 (dk_at dksX9_isBuilt_11 17 rfl rfl)
theorem dX9_isBuilt_281 : decode cX9_isBuilt 281 = .ok (.getfield 15, 3) := dk_180 0 15 (dk_at dksX9_isBuilt_11 18 rfl rfl)
theorem dX9_isBuilt_284 : decode cX9_isBuilt 284 = .ok (.iconst 1, 1) := dk_4 (dk_at dksX9_isBuilt_11 21 rfl rfl)
theorem dX9_isBuilt_285 : decode cX9_isBuilt 285 = .ok (.iaload, 1) := dk_46 (dk_at dksX9_isBuilt_11 22 rfl rfl)
theorem dX9_isBuilt_286 : decode cX9_isBuilt 286 = .ok (.aload_n 0, 1) := dk_42 (dk_at dksX9_isBuilt_11 23 rfl rfl)
theorem dX9_isBuilt_287 : decode cX9_isBuilt 287 = .ok (.getfield 15, 3) := dk_180 0 15 (dk_at dksX9_isBuilt_12 0 rfl rfl)
theorem dX9_isBuilt_290 : decode cX9_isBuilt 290 = .ok (.iconst 2, 1) := dk_5 (dk_at dksX9_isBuilt_12 3 rfl rfl)
theorem dX9_isBuilt_291 : decode cX9_isBuilt 291 = .ok (.iaload, 1) := dk_46 (dk_at dksX9_isBuilt_12 4 rfl rfl)
theorem dX9_isBuilt_292 : decode cX9_isBuilt 292 = .ok (.aload_n 0, 1) := dk_42 (dk_at dksX9_isBuilt_12 5 rfl rfl)
theorem dX9_isBuilt_293 : decode cX9_isBuilt 293 = .ok (.getfield 15, 3) := dk_180 0 15 (dk_at dksX9_isBuilt_12 6 rfl rfl)
theorem dX9_isBuilt_296 : decode cX9_isBuilt 296 = .ok (.iconst 3, 1) := dk_6 (dk_at dksX9_isBuilt_12 9 rfl rfl)
theorem dX9_isBuilt_297 : decode cX9_isBuilt 297 = .ok (.iaload, 1) := dk_46 (dk_at dksX9_isBuilt_12 10 rfl rfl)
theorem dX9_isBuilt_298 : decode cX9_isBuilt 298 = .ok (.invokevirtual 93, 3) := dk_182 0 93 (dk_at dksX9_isBuilt_12 11 rfl rfl)
theorem dX9_isBuilt_301 : decode cX9_isBuilt 301 = .ok (.ifCond .lt 7, 3) := dk_155 0 7 (dk_at dksX9_isBuilt_12 14 rfl rfl)
theorem dX9_isBuilt_304 : decode cX9_isBuilt 304 = .ok (.iconst 1, 1) := dk_4 (dk_at dksX9_isBuilt_12 17 rfl rfl)
theorem dX9_isBuilt_305 : decode cX9_isBuilt 305 = .ok (.goto 4, 3) := dk_167 0 4 (dk_at dksX9_isBuilt_12 18 rfl rfl)
theorem dX9_isBuilt_308 : decode cX9_isBuilt 308 = .ok (.iconst 0, 1) := dk_3 (dk_at dksX9_isBuilt_12 21 rfl rfl)
theorem dX9_isBuilt_309 : decode cX9_isBuilt 309 = .ok (.ireturn, 1) := dk_172 (dk_at dksX9_isBuilt_12 22 rfl rfl)
theorem q141 : (Jvm.Cond.initialized "ParityMaze$Command") ∈ lw_all := lw_g (lw_at lw_m1 54 rfl) rfl
theorem q457 : (Jvm.Cond.selects "ParityMaze$Command" ({ cls := "java/lang/Object", name := "getClass", desc := "()Ljava/lang/Class;" } : Jvm.MethodName) ({ cls := "java/lang/Object", name := "getClass", desc := "()Ljava/lang/Class;" } : Jvm.MethodName)) ∈ lw_all := lw_g (lw_at lw_m2 130 rfl) rfl
theorem q985 : (Jvm.Cond.selects "ParityMaze$Command" ({ cls := "java/lang/Object", name := "hashCode", desc := "()I" } : Jvm.MethodName) ({ cls := "java/lang/Object", name := "hashCode", desc := "()I" } : Jvm.MethodName)) ∈ lw_all := lw_g (lw_at lw_m4 178 rfl) rfl
theorem q1408 : (Jvm.Cond.selects "ParityMaze$Command" ({ cls := "java/lang/Object", name := "equals", desc := "(Ljava/lang/Object;)Z" } : Jvm.MethodName) ({ cls := "java/lang/Object", name := "equals", desc := "(Ljava/lang/Object;)Z" } : Jvm.MethodName)) ∈ lw_all := lw_g (lw_at lw_m6 121 rfl) rfl
theorem q2133 : (Jvm.Cond.instantiable "ParityMaze$Command" (2 : Nat)) ∈ lw_all := lw_g (lw_at lw_m9 126 rfl) rfl
theorem q2148 : (Jvm.Cond.instanceMethod ({ cls := "ParityMaze$Command", name := "<init>", desc := "(Ljava/lang/String;[I)V" } : Jvm.MethodName)) ∈ lw_all := lw_g (lw_at lw_m9 141 rfl) rfl
theorem q2149 : (Jvm.Cond.code ({ cls := "ParityMaze$Command", name := "<init>", desc := "(Ljava/lang/String;[I)V" } : Jvm.MethodName) prog_2_method_1_code (3 : Nat) (Option.none : Option Jvm.ClassFile.FieldType)) ∈ lw_all := lw_g (lw_at lw_m9 142 rfl) rfl
theorem q2150 : (Jvm.Cond.methodLink "ParityMaze$Command" (3 : Nat) ({ cls := "java/lang/Object", name := "<init>", desc := "()V" } : Jvm.MethodName)) ∈ lw_all := lw_g (lw_at lw_m9 143 rfl) rfl
theorem q2151 : (Jvm.Cond.fieldLink "ParityMaze$Command" (9 : Nat) "ParityMaze$Command" "word" "Ljava/lang/String;") ∈ lw_all := lw_g (lw_at lw_m9 144 rfl) rfl
theorem q2152 : (Jvm.Cond.fieldLink "ParityMaze$Command" (15 : Nat) "ParityMaze$Command" "numbers" "[I") ∈ lw_all := lw_g (lw_at lw_m9 145 rfl) rfl
theorem q2153 : (Jvm.Cond.laysFinal "ParityMaze$Command" "ParityMaze$Command" "word" "Ljava/lang/String;") ∈ lw_all := lw_g (lw_at lw_m9 146 rfl) rfl
theorem q2154 : (Jvm.Cond.soleField "ParityMaze$Command" "word") ∈ lw_all := lw_g (lw_at lw_m9 147 rfl) rfl
theorem q2155 : (Jvm.Cond.laysFinal "ParityMaze$Command" "ParityMaze$Command" "numbers" "[I") ∈ lw_all := lw_g (lw_at lw_m9 148 rfl) rfl
theorem q2156 : (Jvm.Cond.soleField "ParityMaze$Command" "numbers") ∈ lw_all := lw_g (lw_at lw_m9 149 rfl) rfl
theorem q2157 : (Jvm.Cond.superclass "ParityMaze$Command" "java/lang/Object") ∈ lw_all := lw_g (lw_at lw_m9 150 rfl) rfl
theorem q2174 : (Jvm.Cond.instanceMethod ({ cls := "ParityMaze$Command", name := "isCarriedOut", desc := "(LParityMaze$Maze;)Z" } : Jvm.MethodName)) ∈ lw_all := lw_g (lw_at lw_m9 167 rfl) rfl
theorem q2175 : (Jvm.Cond.selects "ParityMaze$Command" ({ cls := "ParityMaze$Command", name := "isCarriedOut", desc := "(LParityMaze$Maze;)Z" } : Jvm.MethodName) ({ cls := "ParityMaze$Command", name := "isCarriedOut", desc := "(LParityMaze$Maze;)Z" } : Jvm.MethodName)) ∈ lw_all := lw_g (lw_at lw_m9 168 rfl) rfl
theorem q2176 : (Jvm.Cond.codeWith ({ cls := "ParityMaze$Command", name := "isCarriedOut", desc := "(LParityMaze$Maze;)Z" } : Jvm.MethodName) prog_2_method_4_code (4 : Nat) (Option.some Jvm.ClassFile.FieldType.boolean) [((54 : Nat), (71 : Nat), (72 : Nat), (106 : Nat))]) ∈ lw_all := lw_g (lw_at lw_m9 169 rfl) rfl
theorem q2177 : (Jvm.Cond.classLink "ParityMaze$Command" (106 : Nat) "ParityMaze$Refused") ∈ lw_all := lw_g (lw_at lw_m9 170 rfl) rfl
theorem q2178 : (Jvm.Cond.stringRef "ParityMaze$Command" (25 : Nat) "go ") ∈ lw_tbl := lw_at lw_m9 171 rfl
theorem q2179 : (Jvm.Cond.methodLink "ParityMaze$Command" (27 : Nat) ({ cls := "java/lang/String", name := "equals", desc := "(Ljava/lang/Object;)Z" } : Jvm.MethodName)) ∈ lw_all := lw_g (lw_at lw_m9 172 rfl) rfl
theorem q2180 : (Jvm.Cond.stringRef "ParityMaze$Command" (31 : Nat) "wait ") ∈ lw_tbl := lw_at lw_m9 173 rfl
theorem q2181 : (Jvm.Cond.stringRef "ParityMaze$Command" (33 : Nat) "take ") ∈ lw_tbl := lw_at lw_m9 174 rfl
theorem q2182 : (Jvm.Cond.stringRef "ParityMaze$Command" (97 : Nat) "open ") ∈ lw_tbl := lw_at lw_m9 175 rfl
theorem q2183 : (Jvm.Cond.methodLink "ParityMaze$Command" (99 : Nat) ({ cls := "ParityMaze$Command", name := "isWalked", desc := "(LParityMaze$Maze;)Z" } : Jvm.MethodName)) ∈ lw_all := lw_g (lw_at lw_m9 176 rfl) rfl
theorem q2184 : (Jvm.Cond.privateMethod ({ cls := "ParityMaze$Command", name := "isWalked", desc := "(LParityMaze$Maze;)Z" } : Jvm.MethodName)) ∈ lw_tbl := lw_at lw_m9 177 rfl
theorem q2185 : (Jvm.Cond.instanceMethod ({ cls := "ParityMaze$Command", name := "isWalked", desc := "(LParityMaze$Maze;)Z" } : Jvm.MethodName)) ∈ lw_all := lw_g (lw_at lw_m9 178 rfl) rfl
theorem q2186 : (Jvm.Cond.code ({ cls := "ParityMaze$Command", name := "isWalked", desc := "(LParityMaze$Maze;)Z" } : Jvm.MethodName) prog_2_method_2_code (5 : Nat) (Option.some Jvm.ClassFile.FieldType.boolean)) ∈ lw_all := lw_g (lw_at lw_m9 179 rfl) rfl
theorem q2187 : (Jvm.Cond.methodLink "ParityMaze$Command" (19 : Nat) ({ cls := "java/lang/String", name := "hashCode", desc := "()I" } : Jvm.MethodName)) ∈ lw_all := lw_g (lw_at lw_m9 180 rfl) rfl
theorem q2188 : (Jvm.Cond.methodLink "ParityMaze$Command" (35 : Nat) ({ cls := "ParityMaze$Maze", name := "isDoor", desc := "(I)Z" } : Jvm.MethodName)) ∈ lw_all := lw_g (lw_at lw_m9 181 rfl) rfl
theorem q2189 : (Jvm.Cond.methodLink "ParityMaze$Command" (41 : Nat) ({ cls := "ParityMaze$Maze", name := "goes", desc := "(I)I" } : Jvm.MethodName)) ∈ lw_all := lw_g (lw_at lw_m9 182 rfl) rfl
theorem q2190 : (Jvm.Cond.methodLinkNest "ParityMaze$Command" (45 : Nat) ({ cls := "ParityMaze", name := "isIn", desc := "(III)Z" } : Jvm.MethodName) "ParityMaze") ∈ lw_tbl := lw_at lw_m9 183 rfl
theorem q2191 : (Jvm.Cond.methodLink "ParityMaze$Command" (49 : Nat) ({ cls := "ParityMaze$Maze", name := "rests", desc := "(I)I" } : Jvm.MethodName)) ∈ lw_all := lw_g (lw_at lw_m9 184 rfl) rfl
theorem q2192 : (Jvm.Cond.methodLinkNest "ParityMaze$Command" (52 : Nat) ({ cls := "ParityMaze", name := "isColour", desc := "(I)Z" } : Jvm.MethodName) "ParityMaze") ∈ lw_tbl := lw_at lw_m9 185 rfl
theorem q2193 : (Jvm.Cond.methodLink "ParityMaze$Command" (55 : Nat) ({ cls := "ParityMaze$Maze", name := "takes", desc := "(I)I" } : Jvm.MethodName)) ∈ lw_all := lw_g (lw_at lw_m9 186 rfl) rfl
theorem q2194 : (Jvm.Cond.methodLink "ParityMaze$Command" (58 : Nat) ({ cls := "ParityMaze$Maze", name := "opens", desc := "(I)I" } : Jvm.MethodName)) ∈ lw_all := lw_g (lw_at lw_m9 187 rfl) rfl
theorem q2195 : (Jvm.Cond.methodLink "ParityMaze$Command" (103 : Nat) ({ cls := "ParityMaze$Command", name := "isBuilt", desc := "(LParityMaze$Maze;)Z" } : Jvm.MethodName)) ∈ lw_all := lw_g (lw_at lw_m9 188 rfl) rfl
theorem q2196 : (Jvm.Cond.privateMethod ({ cls := "ParityMaze$Command", name := "isBuilt", desc := "(LParityMaze$Maze;)Z" } : Jvm.MethodName)) ∈ lw_tbl := lw_at lw_m9 189 rfl
theorem q2197 : (Jvm.Cond.instanceMethod ({ cls := "ParityMaze$Command", name := "isBuilt", desc := "(LParityMaze$Maze;)Z" } : Jvm.MethodName)) ∈ lw_all := lw_g (lw_at lw_m9 190 rfl) rfl
theorem q2198 : (Jvm.Cond.code ({ cls := "ParityMaze$Command", name := "isBuilt", desc := "(LParityMaze$Maze;)Z" } : Jvm.MethodName) prog_2_method_3_code (6 : Nat) (Option.some Jvm.ClassFile.FieldType.boolean)) ∈ lw_all := lw_g (lw_at lw_m9 191 rfl) rfl
theorem q2199 : (Jvm.Cond.stringRef "ParityMaze$Command" (61 : Nat) "oil ") ∈ lw_tbl := lw_at lw_m9 192 rfl
theorem q2200 : (Jvm.Cond.stringRef "ParityMaze$Command" (63 : Nat) "room ") ∈ lw_tbl := lw_at lw_m9 193 rfl
theorem q2201 : (Jvm.Cond.stringRef "ParityMaze$Command" (65 : Nat) "key ") ∈ lw_tbl := lw_at lw_m9 194 rfl
theorem q2202 : (Jvm.Cond.methodLink "ParityMaze$Command" (67 : Nat) ({ cls := "ParityMaze$Maze", name := "isRoom", desc := "(I)Z" } : Jvm.MethodName)) ∈ lw_all := lw_g (lw_at lw_m9 195 rfl) rfl
theorem q2203 : (Jvm.Cond.methodLink "ParityMaze$Command" (70 : Nat) ({ cls := "ParityMaze$Maze", name := "oils", desc := "(II)I" } : Jvm.MethodName)) ∈ lw_all := lw_g (lw_at lw_m9 196 rfl) rfl
theorem q2204 : (Jvm.Cond.methodLinkNest "ParityMaze$Command" (74 : Nat) ({ cls := "ParityMaze", name := "isOil", desc := "(I)Z" } : Jvm.MethodName) "ParityMaze") ∈ lw_tbl := lw_at lw_m9 197 rfl
theorem q2205 : (Jvm.Cond.methodLink "ParityMaze$Command" (77 : Nat) ({ cls := "ParityMaze$Maze", name := "adds", desc := "(I)I" } : Jvm.MethodName)) ∈ lw_all := lw_g (lw_at lw_m9 198 rfl) rfl
theorem q2206 : (Jvm.Cond.methodLink "ParityMaze$Command" (80 : Nat) ({ cls := "ParityMaze$Maze", name := "lays", desc := "(II)I" } : Jvm.MethodName)) ∈ lw_all := lw_g (lw_at lw_m9 199 rfl) rfl
theorem q2207 : (Jvm.Cond.methodLink "ParityMaze$Command" (83 : Nat) ({ cls := "ParityMaze$Maze", name := "areRooms", desc := "(II)Z" } : Jvm.MethodName)) ∈ lw_all := lw_g (lw_at lw_m9 200 rfl) rfl
theorem q2208 : (Jvm.Cond.methodLinkNest "ParityMaze$Command" (87 : Nat) ({ cls := "ParityMaze", name := "isKind", desc := "(I)Z" } : Jvm.MethodName) "ParityMaze") ∈ lw_tbl := lw_at lw_m9 201 rfl
theorem q2209 : (Jvm.Cond.methodLinkNest "ParityMaze$Command" (90 : Nat) ({ cls := "ParityMaze", name := "isLock", desc := "(I)Z" } : Jvm.MethodName) "ParityMaze") ∈ lw_tbl := lw_at lw_m9 202 rfl
theorem q2210 : (Jvm.Cond.methodLink "ParityMaze$Command" (93 : Nat) ({ cls := "ParityMaze$Maze", name := "builds", desc := "(IIII)I" } : Jvm.MethodName)) ∈ lw_all := lw_g (lw_at lw_m9 203 rfl) rfl
theorem q2914 : (Jvm.Cond.castable "ParityMaze$Command" "java/lang/Object") ∈ lw_tbl := lw_at lw_m12 187 rfl
theorem in_X9 : ∀ w ∈ wsX90, w ∈ lw_all := lw_in wsX90 [2153, 2155] (by decide +kernel) (by decide +kernel)
