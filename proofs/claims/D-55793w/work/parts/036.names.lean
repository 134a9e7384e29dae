/-! java/util/AbstractMap -/
set_option maxRecDepth 100000
def RJ20 : String := "java/util/AbstractMap"
abbrev cJ20_init : ByteArray := prog_37_method_1_code
def yJ20_init : MethodName := ⟨RJ20, "<init>", "()V"⟩
theorem dJ20_init_0 : decode cJ20_init 0 = .ok (.aload_n 0, 1) := by decide +kernel
theorem dJ20_init_1 : decode cJ20_init 1 = .ok (.invokespecial 1, 3) := by decide +kernel
theorem dJ20_init_4 : decode cJ20_init 4 = .ok (.return_, 1) := by decide +kernel
theorem q115 : (Jvm.Cond.initialized "java/util/AbstractMap") ∈ lw_all := lw_g (lw_at lw_m1 28 rfl) rfl
theorem q799 : (Jvm.Cond.instanceMethod ({ cls := "java/util/AbstractMap", name := "<init>", desc := "()V" } : Jvm.MethodName)) ∈ lw_all := lw_g (lw_at lw_m3 232 rfl) rfl
theorem q800 : (Jvm.Cond.code ({ cls := "java/util/AbstractMap", name := "<init>", desc := "()V" } : Jvm.MethodName) prog_37_method_1_code (1 : Nat) (Option.none : Option Jvm.ClassFile.FieldType)) ∈ lw_all := lw_g (lw_at lw_m3 233 rfl) rfl
theorem q801 : (Jvm.Cond.methodLink "java/util/AbstractMap" (1 : Nat) ({ cls := "java/lang/Object", name := "<init>", desc := "()V" } : Jvm.MethodName)) ∈ lw_all := lw_g (lw_at lw_m3 234 rfl) rfl
theorem q858 : (Jvm.Cond.soleField "java/util/AbstractMap" "keySet") ∈ lw_all := lw_g (lw_at lw_m4 51 rfl) rfl
theorem q860 : (Jvm.Cond.soleField "java/util/AbstractMap" "values") ∈ lw_all := lw_g (lw_at lw_m4 53 rfl) rfl
/-! java/util/HashMap -/
set_option maxRecDepth 100000
def RJ21 : String := "java/util/HashMap"
abbrev cJ21_init : ByteArray := prog_47_method_5_code
def yJ21_init : MethodName := ⟨RJ21, "<init>", "(IF)V"⟩
def dkwJ21_init_4 : List UInt8 := [181, 0, 88, 177]
abbrev dktJ21_init_4 : List UInt8 := dkwJ21_init_4 ++ []
def dkwJ21_init_3 : List UInt8 := [182, 0, 56, 36, 182, 0, 78, 182, 0, 63, 183, 0, 67, 191, 42, 36, 181, 0, 81, 42, 27, 184, 0, 85]
abbrev dktJ21_init_3 : List UInt8 := dkwJ21_init_3 ++ dktJ21_init_4
def dkwJ21_init_2 : List UInt8 := [158, 0, 10, 36, 184, 0, 70, 153, 0, 30, 187, 0, 49, 89, 187, 0, 51, 89, 183, 0, 53, 18, 76]
abbrev dktJ21_init_2 : List UInt8 := dkwJ21_init_2 ++ dktJ21_init_3
def dkwJ21_init_1 : List UInt8 := [27, 182, 0, 60, 182, 0, 63, 183, 0, 67, 191, 27, 18, 42, 164, 0, 6, 18, 42, 60, 36, 11, 150]
abbrev dktJ21_init_1 : List UInt8 := dkwJ21_init_1 ++ dktJ21_init_2
def dkwJ21_init_0 : List UInt8 := [42, 183, 0, 43, 27, 156, 0, 30, 187, 0, 49, 89, 187, 0, 51, 89, 183, 0, 53, 18, 54, 182, 0, 56]
abbrev dktJ21_init_0 : List UInt8 := dkwJ21_init_0 ++ dktJ21_init_1
theorem dksJ21_init_0 : cJ21_init.data.toList.drop 0 = dktJ21_init_0 := by decide +kernel
theorem dksJ21_init_1 : cJ21_init.data.toList.drop 24 = dktJ21_init_1 := dk_seg dksJ21_init_0 24 rfl rfl
theorem dksJ21_init_2 : cJ21_init.data.toList.drop 47 = dktJ21_init_2 := dk_seg dksJ21_init_1 23 rfl rfl
theorem dksJ21_init_3 : cJ21_init.data.toList.drop 70 = dktJ21_init_3 := dk_seg dksJ21_init_2 23 rfl rfl
theorem dksJ21_init_4 : cJ21_init.data.toList.drop 94 = dktJ21_init_4 := dk_seg dksJ21_init_3 24 rfl rfl
theorem dJ21_init_0 : decode cJ21_init 0 = .ok (.aload_n 0, 1) := dk_42 (dk_at dksJ21_init_0 0 rfl rfl)
theorem dJ21_init_1 : decode cJ21_init 1 = .ok (.invokespecial 43, 3) := dk_183 0 43 (dk_at dksJ21_init_0 1 rfl rfl)
theorem dJ21_init_4 : decode cJ21_init 4 = .ok (.iload_n 1, 1) := dk_27 (dk_at dksJ21_init_0 4 rfl rfl)
theorem dJ21_init_5 : decode cJ21_init 5 = .ok (.ifCond .ge 30, 3) := dk_156 0 30 (dk_at dksJ21_init_0 5 rfl rfl)
theorem dJ21_init_8 : decode cJ21_init 8 = .ok (.new 49, 3) := dk_187 0 49 (dk_at dksJ21_init_0 8 rfl rfl)
theorem dJ21_init_11 : decode cJ21_init 11 = .ok (.dup, 1) := dk_89 (dk_at dksJ21_init_0 11 rfl rfl)
theorem dJ21_init_12 : decode cJ21_init 12 = .ok (.new 51, 3) := dk_187 0 51 (dk_at dksJ21_init_0 12 rfl rfl)
theorem dJ21_init_15 : decode cJ21_init 15 = .ok (.dup, 1) := dk_89 (dk_at dksJ21_init_0 15 rfl rfl)
theorem dJ21_init_16 : decode cJ21_init 16 = .ok (.invokespecial 53, 3) := dk_183 0 53 (dk_at dksJ21_init_0 16 rfl rfl)
theorem dJ21_init_19 : decode cJ21_init 19 = .ok (.ldc 54, 2) := dk_18 54 (dk_at dksJ21_init_0 19 rfl rfl)
theorem dJ21_init_21 : decode cJ21_init 21 = .ok (.invokevirtual 56, 3) := dk_182 0 56 (dk_at dksJ21_init_0 21 rfl rfl)
theorem dJ21_init_24 : decode cJ21_init 24 = .ok (.iload_n 1, 1) := dk_27 (dk_at dksJ21_init_1 0 rfl rfl)
theorem dJ21_init_25 : decode cJ21_init 25 = .ok (.invokevirtual 60, 3) := dk_182 0 60 (dk_at dksJ21_init_1 1 rfl rfl)
theorem dJ21_init_28 : decode cJ21_init 28 = .ok (.invokevirtual 63, 3) := dk_182 0 63 (dk_at dksJ21_init_1 4 rfl rfl)
theorem dJ21_init_31 : decode cJ21_init 31 = .ok (.invokespecial 67, 3) := dk_183 0 67 (dk_at dksJ21_init_1 7 rfl rfl)
theorem dJ21_init_34 : decode cJ21_init 34 = .ok (.athrow, 1) := dk_191 (dk_at dksJ21_init_1 10 rfl rfl)
theorem dJ21_init_35 : decode cJ21_init 35 = .ok (.iload_n 1, 1) := dk_27 (dk_at dksJ21_init_1 11 rfl rfl)
theorem dJ21_init_36 : decode cJ21_init 36 = .ok (.ldc 42, 2) := dk_18 42 (dk_at dksJ21_init_1 12 rfl rfl)
theorem dJ21_init_38 : decode cJ21_init 38 = .ok (.if_icmp .le 6, 3) := dk_164 0 6 (dk_at dksJ21_init_1 14 rfl rfl)
theorem dJ21_init_41 : decode cJ21_init 41 = .ok (.ldc 42, 2) := dk_18 42 (dk_at dksJ21_init_1 17 rfl rfl)
theorem dJ21_init_43 : decode cJ21_init 43 = .ok (.istore_n 1, 1) := dk_60 (dk_at dksJ21_init_1 19 rfl rfl)
theorem dJ21_init_44 : decode cJ21_init 44 = .ok (.fload_n 2, 1) := dk_36 (dk_at dksJ21_init_1 20 rfl rfl)
theorem dJ21_init_45 : decode cJ21_init 45 = .ok (.fconst 0, 1) := dk_11 (dk_at dksJ21_init_1 21 rfl rfl)
theorem dJ21_init_46 : decode cJ21_init 46 = .ok (.fcmp .g, 1) := dk_150 (dk_at dksJ21_init_1 22 rfl rfl)
theorem dJ21_init_47 : decode cJ21_init 47 = .ok (.ifCond .le 10, 3) := dk_158 0 10 (dk_at dksJ21_init_2 0 rfl rfl)
theorem dJ21_init_50 : decode cJ21_init 50 = .ok (.fload_n 2, 1) := dk_36 (dk_at dksJ21_init_2 3 rfl rfl)
theorem dJ21_init_51 : decode cJ21_init 51 = .ok (.invokestatic 70, 3) := dk_184 0 70 (dk_at dksJ21_init_2 4 rfl rfl)
theorem dJ21_init_54 : decode cJ21_init 54 = .ok (.ifCond .eq 30, 3) := dk_153 0 30 (dk_at dksJ21_init_2 7 rfl rfl)
theorem dJ21_init_57 : decode cJ21_init 57 = .ok (.new 49, 3) := dk_187 0 49 (dk_at dksJ21_init_2 10 rfl rfl)
theorem dJ21_init_60 : decode cJ21_init 60 = .ok (.dup, 1) := dk_89 (dk_at dksJ21_init_2 13 rfl rfl)
theorem dJ21_init_61 : decode cJ21_init 61 = .ok (.new 51, 3) := dk_187 0 51 (dk_at dksJ21_init_2 14 rfl rfl)
theorem dJ21_init_64 : decode cJ21_init 64 = .ok (.dup, 1) := dk_89 (dk_at dksJ21_init_2 17 rfl rfl)
theorem dJ21_init_65 : decode cJ21_init 65 = .ok (.invokespecial 53, 3) := dk_183 0 53 (dk_at dksJ21_init_2 18 rfl rfl)
theorem dJ21_init_68 : decode cJ21_init 68 = .ok (.ldc 76, 2) := dk_18 76 (dk_at dksJ21_init_2 21 rfl rfl)
theorem dJ21_init_70 : decode cJ21_init 70 = .ok (.invokevirtual 56, 3) := dk_182 0 56 (dk_at dksJ21_init_3 0 rfl rfl)
theorem dJ21_init_73 : decode cJ21_init 73 = .ok (.fload_n 2, 1) := dk_36 (dk_at dksJ21_init_3 3 rfl rfl)
theorem dJ21_init_74 : decode cJ21_init 74 = .ok (.invokevirtual 78, 3) := dk_182 0 78 (dk_at dksJ21_init_3 4 rfl rfl)
theorem dJ21_init_77 : decode cJ21_init 77 = .ok (.invokevirtual 63, 3) := dk_182 0 63 (dk_at dksJ21_init_3 7 rfl rfl)
theorem dJ21_init_80 : decode cJ21_init 80 = .ok (.invokespecial 67, 3) := dk_183 0 67 (dk_at dksJ21_init_3 10 rfl rfl)
theorem dJ21_init_83 : decode cJ21_init 83 = .ok (.athrow, 1) := dk_191 (dk_at dksJ21_init_3 13 rfl rfl)
theorem dJ21_init_84 : decode cJ21_init 84 = .ok (.aload_n 0, 1) := dk_42 (dk_at dksJ21_init_3 14 rfl rfl)
theorem dJ21_init_85 : decode cJ21_init 85 = .ok (.fload_n 2, 1) := dk_36 (dk_at dksJ21_init_3 15 rfl rfl)
theorem dJ21_init_86 : decode cJ21_init 86 = .ok (.putfield 81, 3) := dk_181 0 81 (dk_at dksJ21_init_3 16 rfl rfl)
theorem dJ21_init_89 : decode cJ21_init 89 = .ok (.aload_n 0, 1) := dk_42 (dk_at dksJ21_init_3 19 rfl rfl)
theorem dJ21_init_90 : decode cJ21_init 90 = .ok (.iload_n 1, 1) := dk_27 (dk_at dksJ21_init_3 20 rfl rfl)
theorem dJ21_init_91 : decode cJ21_init 91 = .ok (.invokestatic 85, 3) := dk_184 0 85 (dk_at dksJ21_init_3 21 rfl rfl)
theorem dJ21_init_94 : decode cJ21_init 94 = .ok (.putfield 88, 3) := dk_181 0 88 (dk_at dksJ21_init_4 0 rfl rfl)
theorem dJ21_init_97 : decode cJ21_init 97 = .ok (.return_, 1) := dk_177 (dk_at dksJ21_init_4 3 rfl rfl)
abbrev cJ21_tableSizeFor : ByteArray := prog_47_method_4_code
def yJ21_tableSizeFor : MethodName := ⟨RJ21, "tableSizeFor", "(I)I"⟩
def dkwJ21_tableSizeFor_1 : List UInt8 := [18, 42, 167, 0, 6, 27, 4, 96, 172]
abbrev dktJ21_tableSizeFor_1 : List UInt8 := dkwJ21_tableSizeFor_1 ++ []
def dkwJ21_tableSizeFor_0 : List UInt8 := [2, 26, 4, 100, 184, 0, 34, 124, 60, 27, 156, 0, 7, 4, 167, 0, 17, 27, 18, 42, 161, 0, 8]
abbrev dktJ21_tableSizeFor_0 : List UInt8 := dkwJ21_tableSizeFor_0 ++ dktJ21_tableSizeFor_1
theorem dksJ21_tableSizeFor_0 : cJ21_tableSizeFor.data.toList.drop 0 = dktJ21_tableSizeFor_0 := by decide +kernel
theorem dksJ21_tableSizeFor_1 : cJ21_tableSizeFor.data.toList.drop 23 = dktJ21_tableSizeFor_1 := dk_seg dksJ21_tableSizeFor_0 23 rfl rfl
theorem dJ21_tableSizeFor_0 : decode cJ21_tableSizeFor 0 = .ok (.iconst (-1), 1) := dk_2 (dk_at dksJ21_tableSizeFor_0 0 rfl rfl)
theorem dJ21_tableSizeFor_1 : decode cJ21_tableSizeFor 1 = .ok (.iload_n 0, 1) := dk_26 (dk_at dksJ21_tableSizeFor_0 1 rfl rfl)
theorem dJ21_tableSizeFor_2 : decode cJ21_tableSizeFor 2 = .ok (.iconst 1, 1) := dk_4 (dk_at dksJ21_tableSizeFor_0 2 rfl rfl)
theorem dJ21_tableSizeFor_3 : decode cJ21_tableSizeFor 3 = .ok (.isub, 1) := dk_100 (dk_at dksJ21_tableSizeFor_0 3 rfl rfl)
theorem dJ21_tableSizeFor_4 : decode cJ21_tableSizeFor 4 = .ok (.invokestatic 34, 3) := dk_184 0 34 (dk_at dksJ21_tableSizeFor_0 4 rfl rfl)
theorem dJ21_tableSizeFor_7 : decode cJ21_tableSizeFor 7 = .ok (.iushr, 1) := dk_124 (dk_at dksJ21_tableSizeFor_0 7 rfl rfl)
theorem dJ21_tableSizeFor_8 : decode cJ21_tableSizeFor 8 = .ok (.istore_n 1, 1) := dk_60 (dk_at dksJ21_tableSizeFor_0 8 rfl rfl)
theorem dJ21_tableSizeFor_9 : decode cJ21_tableSizeFor 9 = .ok (.iload_n 1, 1) := dk_27 (dk_at dksJ21_tableSizeFor_0 9 rfl rfl)
theorem dJ21_tableSizeFor_10 : decode cJ21_tableSizeFor 10 = .ok (.ifCond .ge 7, 3) := dk_156 0 7 (dk_at dksJ21_tableSizeFor_0 10 rfl rfl)
theorem dJ21_tableSizeFor_13 : decode cJ21_tableSizeFor 13 = .ok (.iconst 1, 1) := dk_4 (dk_at dksJ21_tableSizeFor_0 13 rfl rfl)
theorem dJ21_tableSizeFor_14 : decode cJ21_tableSizeFor 14 = .ok (.goto 17, 3) := dk_167 0 17 (dk_at dksJ21_tableSizeFor_0 14 rfl rfl)
theorem dJ21_tableSizeFor_17 : decode cJ21_tableSizeFor 17 = .ok (.iload_n 1, 1) := dk_27 (dk_at dksJ21_tableSizeFor_0 17 rfl rfl)
theorem dJ21_tableSizeFor_18 : decode cJ21_tableSizeFor 18 = .ok (.ldc 42, 2) := dk_18 42 (dk_at dksJ21_tableSizeFor_0 18 rfl rfl)
theorem dJ21_tableSizeFor_20 : decode cJ21_tableSizeFor 20 = .ok (.if_icmp .lt 8, 3) := dk_161 0 8 (dk_at dksJ21_tableSizeFor_0 20 rfl rfl)
theorem dJ21_tableSizeFor_23 : decode cJ21_tableSizeFor 23 = .ok (.ldc 42, 2) := dk_18 42 (dk_at dksJ21_tableSizeFor_1 0 rfl rfl)
theorem dJ21_tableSizeFor_25 : decode cJ21_tableSizeFor 25 = .ok (.goto 6, 3) := dk_167 0 6 (dk_at dksJ21_tableSizeFor_1 2 rfl rfl)
theorem dJ21_tableSizeFor_28 : decode cJ21_tableSizeFor 28 = .ok (.iload_n 1, 1) := dk_27 (dk_at dksJ21_tableSizeFor_1 5 rfl rfl)
theorem dJ21_tableSizeFor_29 : decode cJ21_tableSizeFor 29 = .ok (.iconst 1, 1) := dk_4 (dk_at dksJ21_tableSizeFor_1 6 rfl rfl)
theorem dJ21_tableSizeFor_30 : decode cJ21_tableSizeFor 30 = .ok (.iadd, 1) := dk_96 (dk_at dksJ21_tableSizeFor_1 7 rfl rfl)
theorem dJ21_tableSizeFor_31 : decode cJ21_tableSizeFor 31 = .ok (.ireturn, 1) := dk_172 (dk_at dksJ21_tableSizeFor_1 8 rfl rfl)
abbrev cJ21_size : ByteArray := prog_47_method_10_code
def yJ21_size : MethodName := ⟨RJ21, "size", "()I"⟩
theorem dJ21_size_0 : decode cJ21_size 0 = .ok (.aload_n 0, 1) := by decide +kernel
theorem dJ21_size_1 : decode cJ21_size 1 = .ok (.getfield 156, 3) := by decide +kernel
theorem dJ21_size_4 : decode cJ21_size 4 = .ok (.ireturn, 1) := by decide +kernel
abbrev cJ21_put : ByteArray := prog_47_method_15_code
def yJ21_put : MethodName := ⟨RJ21, "put", "(Ljava/lang/Object;Ljava/lang/Object;)Ljava/lang/Object;"⟩
def dkwJ21_put_0 : List UInt8 := [42, 43, 184, 0, 149, 43, 44, 3, 4, 182, 0, 152, 176]
abbrev dktJ21_put_0 : List UInt8 := dkwJ21_put_0 ++ []
theorem dksJ21_put_0 : cJ21_put.data.toList.drop 0 = dktJ21_put_0 := by decide +kernel
theorem dJ21_put_0 : decode cJ21_put 0 = .ok (.aload_n 0, 1) := dk_42 (dk_at dksJ21_put_0 0 rfl rfl)
theorem dJ21_put_1 : decode cJ21_put 1 = .ok (.aload_n 1, 1) := dk_43 (dk_at dksJ21_put_0 1 rfl rfl)
theorem dJ21_put_2 : decode cJ21_put 2 = .ok (.invokestatic 149, 3) := dk_184 0 149 (dk_at dksJ21_put_0 2 rfl rfl)
theorem dJ21_put_5 : decode cJ21_put 5 = .ok (.aload_n 1, 1) := dk_43 (dk_at dksJ21_put_0 5 rfl rfl)
theorem dJ21_put_6 : decode cJ21_put 6 = .ok (.aload_n 2, 1) := dk_44 (dk_at dksJ21_put_0 6 rfl rfl)
theorem dJ21_put_7 : decode cJ21_put 7 = .ok (.iconst 0, 1) := dk_3 (dk_at dksJ21_put_0 7 rfl rfl)
theorem dJ21_put_8 : decode cJ21_put 8 = .ok (.iconst 1, 1) := dk_4 (dk_at dksJ21_put_0 8 rfl rfl)
theorem dJ21_put_9 : decode cJ21_put 9 = .ok (.invokevirtual 152, 3) := dk_182 0 152 (dk_at dksJ21_put_0 9 rfl rfl)
theorem dJ21_put_12 : decode cJ21_put 12 = .ok (.areturn, 1) := dk_176 (dk_at dksJ21_put_0 12 rfl rfl)
abbrev cJ21_hash : ByteArray := prog_47_method_1_code
def yJ21_hash : MethodName := ⟨RJ21, "hash", "(Ljava/lang/Object;)I"⟩
def dkwJ21_hash_0 : List UInt8 := [42, 199, 0, 7, 3, 167, 0, 14, 42, 182, 0, 1, 89, 60, 27, 16, 16, 124, 130, 172]
abbrev dktJ21_hash_0 : List UInt8 := dkwJ21_hash_0 ++ []
theorem dksJ21_hash_0 : cJ21_hash.data.toList.drop 0 = dktJ21_hash_0 := by decide +kernel
theorem dJ21_hash_0 : decode cJ21_hash 0 = .ok (.aload_n 0, 1) := dk_42 (dk_at dksJ21_hash_0 0 rfl rfl)
theorem dJ21_hash_1 : decode cJ21_hash 1 = .ok (.ifnonnull 7, 3) := dk_199 0 7 (dk_at dksJ21_hash_0 1 rfl rfl)
theorem dJ21_hash_4 : decode cJ21_hash 4 = .ok (.iconst 0, 1) := dk_3 (dk_at dksJ21_hash_0 4 rfl rfl)
theorem dJ21_hash_5 : decode cJ21_hash 5 = .ok (.goto 14, 3) := dk_167 0 14 (dk_at dksJ21_hash_0 5 rfl rfl)
theorem dJ21_hash_8 : decode cJ21_hash 8 = .ok (.aload_n 0, 1) := dk_42 (dk_at dksJ21_hash_0 8 rfl rfl)
theorem dJ21_hash_9 : decode cJ21_hash 9 = .ok (.invokevirtual 1, 3) := dk_182 0 1 (dk_at dksJ21_hash_0 9 rfl rfl)
theorem dJ21_hash_12 : decode cJ21_hash 12 = .ok (.dup, 1) := dk_89 (dk_at dksJ21_hash_0 12 rfl rfl)
theorem dJ21_hash_13 : decode cJ21_hash 13 = .ok (.istore_n 1, 1) := dk_60 (dk_at dksJ21_hash_0 13 rfl rfl)
theorem dJ21_hash_14 : decode cJ21_hash 14 = .ok (.iload_n 1, 1) := dk_27 (dk_at dksJ21_hash_0 14 rfl rfl)
theorem dJ21_hash_15 : decode cJ21_hash 15 = .ok (.bipush 16, 2) := dk_16 16 (dk_at dksJ21_hash_0 15 rfl rfl)
theorem dJ21_hash_17 : decode cJ21_hash 17 = .ok (.iushr, 1) := dk_124 (dk_at dksJ21_hash_0 17 rfl rfl)
theorem dJ21_hash_18 : decode cJ21_hash 18 = .ok (.ixor, 1) := dk_130 (dk_at dksJ21_hash_0 18 rfl rfl)
theorem dJ21_hash_19 : decode cJ21_hash 19 = .ok (.ireturn, 1) := dk_172 (dk_at dksJ21_hash_0 19 rfl rfl)
abbrev cJ21_putVal : ByteArray := prog_47_method_16_code
def yJ21_putVal : MethodName := ⟨RJ21, "putVal", "(ILjava/lang/Object;Ljava/lang/Object;ZZ)Ljava/lang/Object;"⟩
def dkwJ21_putVal_12 : List UInt8 := [181, 0, 156, 42, 180, 0, 88, 164, 0, 8, 42, 182, 0, 117, 87, 42, 21, 5, 182, 0, 205, 1, 176]
abbrev dktJ21_putVal_12 : List UInt8 := dkwJ21_putVal_12 ++ []
def dkwJ21_putVal_11 : List UInt8 := [182, 0, 198, 25, 12, 176, 42, 89, 180, 0, 202, 4, 96, 181, 0, 202, 42, 89, 180, 0, 156, 4, 96, 90]
abbrev dktJ21_putVal_11 : List UInt8 := dkwJ21_putVal_11 ++ dktJ21_putVal_12
def dkwJ21_putVal_10 : List UInt8 := [180, 0, 162, 58, 12, 21, 4, 153, 0, 8, 25, 12, 199, 0, 9, 25, 10, 45, 181, 0, 162, 42, 25, 10]
abbrev dktJ21_putVal_10 : List UInt8 := dkwJ21_putVal_10 ++ dktJ21_putVal_11
def dkwJ21_putVal_9 : List UInt8 := [153, 0, 6, 167, 0, 13, 25, 10, 58, 7, 132, 12, 1, 167, 255, 171, 25, 10, 198, 0, 35, 25, 10]
abbrev dktJ21_putVal_9 : List UInt8 := dkwJ21_putVal_9 ++ dktJ21_putVal_10
def dkwJ21_putVal_8 : List UInt8 := [25, 10, 180, 0, 170, 89, 58, 11, 44, 165, 0, 29, 44, 198, 0, 15, 44, 25, 11, 182, 0, 173]
abbrev dktJ21_putVal_8 : List UInt8 := dkwJ21_putVal_8 ++ dktJ21_putVal_9
def dkwJ21_putVal_7 : List UInt8 := [16, 7, 161, 0, 60, 42, 25, 6, 27, 182, 0, 194, 167, 0, 50, 25, 10, 180, 0, 168, 27, 160, 0, 31]
abbrev dktJ21_putVal_7 : List UInt8 := dkwJ21_putVal_7 ++ dktJ21_putVal_8
def dkwJ21_putVal_6 : List UInt8 := [180, 0, 177, 89, 58, 10, 199, 0, 33, 25, 7, 42, 27, 44, 45, 1, 182, 0, 186, 181, 0, 177, 21, 12]
abbrev dktJ21_putVal_6 : List UInt8 := dkwJ21_putVal_6 ++ dktJ21_putVal_7
def dkwJ21_putVal_5 : List UInt8 := [192, 0, 180, 42, 25, 6, 27, 44, 45, 182, 0, 190, 58, 10, 167, 0, 94, 3, 54, 12, 25, 7]
abbrev dktJ21_putVal_5 : List UInt8 := dkwJ21_putVal_5 ++ dktJ21_putVal_6
def dkwJ21_putVal_4 : List UInt8 := [182, 0, 173, 153, 0, 10, 25, 7, 58, 10, 167, 0, 121, 25, 7, 193, 0, 180, 153, 0, 22, 25, 7]
abbrev dktJ21_putVal_4 : List UInt8 := dkwJ21_putVal_4 ++ dktJ21_putVal_5
def dkwJ21_putVal_3 : List UInt8 := [160, 0, 35, 25, 7, 180, 0, 170, 89, 58, 11, 44, 165, 0, 16, 44, 198, 0, 19, 44, 25, 11]
abbrev dktJ21_putVal_3 : List UInt8 := dkwJ21_putVal_3 ++ dktJ21_putVal_4
def dkwJ21_putVal_2 : List UInt8 := [25, 6, 21, 9, 42, 27, 44, 45, 1, 182, 0, 186, 83, 167, 0, 199, 25, 7, 180, 0, 168, 27]
abbrev dktJ21_putVal_2 : List UInt8 := dkwJ21_putVal_2 ++ dktJ21_putVal_3
def dkwJ21_putVal_1 : List UInt8 := [58, 6, 190, 54, 8, 25, 6, 21, 8, 4, 100, 27, 126, 89, 54, 9, 50, 89, 58, 7, 199, 0, 19]
abbrev dktJ21_putVal_1 : List UInt8 := dkwJ21_putVal_1 ++ dktJ21_putVal_2
def dkwJ21_putVal_0 : List UInt8 := [42, 180, 0, 105, 89, 58, 6, 198, 0, 12, 25, 6, 190, 89, 54, 8, 154, 0, 13, 42, 182, 0, 117, 89]
abbrev dktJ21_putVal_0 : List UInt8 := dkwJ21_putVal_0 ++ dktJ21_putVal_1
theorem dksJ21_putVal_0 : cJ21_putVal.data.toList.drop 0 = dktJ21_putVal_0 := by decide +kernel
theorem dksJ21_putVal_1 : cJ21_putVal.data.toList.drop 24 = dktJ21_putVal_1 := dk_seg dksJ21_putVal_0 24 rfl rfl
theorem dksJ21_putVal_2 : cJ21_putVal.data.toList.drop 47 = dktJ21_putVal_2 := dk_seg dksJ21_putVal_1 23 rfl rfl
theorem dksJ21_putVal_3 : cJ21_putVal.data.toList.drop 69 = dktJ21_putVal_3 := dk_seg dksJ21_putVal_2 22 rfl rfl
theorem dksJ21_putVal_4 : cJ21_putVal.data.toList.drop 91 = dktJ21_putVal_4 := dk_seg dksJ21_putVal_3 22 rfl rfl
theorem dksJ21_putVal_5 : cJ21_putVal.data.toList.drop 114 = dktJ21_putVal_5 := dk_seg dksJ21_putVal_4 23 rfl rfl
theorem dksJ21_putVal_6 : cJ21_putVal.data.toList.drop 136 = dktJ21_putVal_6 := dk_seg dksJ21_putVal_5 22 rfl rfl
theorem dksJ21_putVal_7 : cJ21_putVal.data.toList.drop 160 = dktJ21_putVal_7 := dk_seg dksJ21_putVal_6 24 rfl rfl
theorem dksJ21_putVal_8 : cJ21_putVal.data.toList.drop 184 = dktJ21_putVal_8 := dk_seg dksJ21_putVal_7 24 rfl rfl
theorem dksJ21_putVal_9 : cJ21_putVal.data.toList.drop 206 = dktJ21_putVal_9 := dk_seg dksJ21_putVal_8 22 rfl rfl
theorem dksJ21_putVal_10 : cJ21_putVal.data.toList.drop 229 = dktJ21_putVal_10 := dk_seg dksJ21_putVal_9 23 rfl rfl
theorem dksJ21_putVal_11 : cJ21_putVal.data.toList.drop 253 = dktJ21_putVal_11 := dk_seg dksJ21_putVal_10 24 rfl rfl
theorem dksJ21_putVal_12 : cJ21_putVal.data.toList.drop 277 = dktJ21_putVal_12 := dk_seg dksJ21_putVal_11 24 rfl rfl
theorem dJ21_putVal_0 : decode cJ21_putVal 0 = .ok (.aload_n 0, 1) := dk_42 (dk_at dksJ21_putVal_0 0 rfl rfl)
theorem dJ21_putVal_1 : decode cJ21_putVal 1 = .ok (.getfield 105, 3) := dk_180 0 105 (dk_at dksJ21_putVal_0 1 rfl rfl)
theorem dJ21_putVal_4 : decode cJ21_putVal 4 = .ok (.dup, 1) := dk_89 (dk_at dksJ21_putVal_0 4 rfl rfl)
theorem dJ21_putVal_5 : decode cJ21_putVal 5 = .ok (.astore 6, 2) := dk_58 6 (dk_at dksJ21_putVal_0 5 rfl rfl)
theorem dJ21_putVal_7 : decode cJ21_putVal 7 = .ok (.ifnull 12, 3) := dk_198 0 12 (dk_at dksJ21_putVal_0 7 rfl rfl)
theorem dJ21_putVal_10 : decode cJ21_putVal 10 = .ok (.aload 6, 2) := dk_25 6 (dk_at dksJ21_putVal_0 10 rfl rfl)
theorem dJ21_putVal_12 : decode cJ21_putVal 12 = .ok (.arraylength, 1) := dk_190 (dk_at dksJ21_putVal_0 12 rfl rfl)
theorem dJ21_putVal_13 : decode cJ21_putVal 13 = .ok (.dup, 1) := dk_89 (dk_at dksJ21_putVal_0 13 rfl rfl)
theorem dJ21_putVal_14 : decode cJ21_putVal 14 = .ok (.istore 8, 2) := dk_54 8 (dk_at dksJ21_putVal_0 14 rfl rfl)
theorem dJ21_putVal_16 : decode cJ21_putVal 16 = .ok (.ifCond .ne 13, 3) := dk_154 0 13 (dk_at dksJ21_putVal_0 16 rfl rfl)
theorem dJ21_putVal_19 : decode cJ21_putVal 19 = .ok (.aload_n 0, 1) := dk_42 (dk_at dksJ21_putVal_0 19 rfl rfl)
theorem dJ21_putVal_20 : decode cJ21_putVal 20 = .ok (.invokevirtual 117, 3) := dk_182 0 117 (dk_at dksJ21_putVal_0 20 rfl rfl)
theorem dJ21_putVal_23 : decode cJ21_putVal 23 = .ok (.dup, 1) := dk_89 (dk_at dksJ21_putVal_0 23 rfl rfl)
theorem dJ21_putVal_24 : decode cJ21_putVal 24 = .ok (.astore 6, 2) := dk_58 6 (dk_at dksJ21_putVal_1 0 rfl rfl)
theorem dJ21_putVal_26 : decode cJ21_putVal 26 = .ok (.arraylength, 1) := dk_190 (dk_at dksJ21_putVal_1 2 rfl rfl)
theorem dJ21_putVal_27 : decode cJ21_putVal 27 = .ok (.istore 8, 2) := dk_54 8 (dk_at dksJ21_putVal_1 3 rfl rfl)
theorem dJ21_putVal_29 : decode cJ21_putVal 29 = .ok (.aload 6, 2) := dk_25 6 (dk_at dksJ21_putVal_1 5 rfl rfl)
theorem dJ21_putVal_31 : decode cJ21_putVal 31 = .ok (.iload 8, 2) := dk_21 8 (dk_at dksJ21_putVal_1 7 rfl rfl)
theorem dJ21_putVal_33 : decode cJ21_putVal 33 = .ok (.iconst 1, 1) := dk_4 (dk_at dksJ21_putVal_1 9 rfl rfl)
theorem dJ21_putVal_34 : decode cJ21_putVal 34 = .ok (.isub, 1) := dk_100 (dk_at dksJ21_putVal_1 10 rfl rfl)
theorem dJ21_putVal_35 : decode cJ21_putVal 35 = .ok (.iload_n 1, 1) := dk_27 (dk_at dksJ21_putVal_1 11 rfl rfl)
theorem dJ21_putVal_36 : decode cJ21_putVal 36 = .ok (.iand, 1) := dk_126 (dk_at dksJ21_putVal_1 12 rfl rfl)
theorem dJ21_putVal_37 : decode cJ21_putVal 37 = .ok (.dup, 1) := dk_89 (dk_at dksJ21_putVal_1 13 rfl rfl)
theorem dJ21_putVal_38 : decode cJ21_putVal 38 = .ok (.istore 9, 2) := dk_54 9 (dk_at dksJ21_putVal_1 14 rfl rfl)
theorem dJ21_putVal_40 : decode cJ21_putVal 40 = .ok (.aaload, 1) := dk_50 (dk_at dksJ21_putVal_1 16 rfl rfl)
theorem dJ21_putVal_41 : decode cJ21_putVal 41 = .ok (.dup, 1) := dk_89 (dk_at dksJ21_putVal_1 17 rfl rfl)
theorem dJ21_putVal_42 : decode cJ21_putVal 42 = .ok (.astore 7, 2) := dk_58 7 (dk_at dksJ21_putVal_1 18 rfl rfl)
theorem dJ21_putVal_44 : decode cJ21_putVal 44 = .ok (.ifnonnull 19, 3) := dk_199 0 19 (dk_at dksJ21_putVal_1 20 rfl rfl)
theorem dJ21_putVal_47 : decode cJ21_putVal 47 = .ok (.aload 6, 2) := dk_25 6 (dk_at dksJ21_putVal_2 0 rfl rfl)
theorem dJ21_putVal_49 : decode cJ21_putVal 49 = .ok (.iload 9, 2) := dk_21 9 (dk_at dksJ21_putVal_2 2 rfl rfl)
theorem dJ21_putVal_51 : decode cJ21_putVal 51 = .ok (.aload_n 0, 1) := dk_42 (dk_at dksJ21_putVal_2 4 rfl rfl)
theorem dJ21_putVal_52 : decode cJ21_putVal 52 = .ok (.iload_n 1, 1) := dk_27 (dk_at dksJ21_putVal_2 5 rfl rfl)
theorem dJ21_putVal_53 : decode cJ21_putVal 53 = .ok (.aload_n 2, 1) := dk_44 (dk_at dksJ21_putVal_2 6 rfl rfl)
theorem dJ21_putVal_54 : decode cJ21_putVal 54 = .ok (.aload_n 3, 1) := dk_45 (dk_at dksJ21_putVal_2 7 rfl rfl)
theorem dJ21_putVal_55 : decode cJ21_putVal 55 = .ok (.aconst_null, 1) := dk_1 (dk_at dksJ21_putVal_2 8 rfl rfl)
theorem dJ21_putVal_56 : decode cJ21_putVal 56 = .ok (.invokevirtual 186, 3) := dk_182 0 186 (dk_at dksJ21_putVal_2 9 rfl rfl)
theorem dJ21_putVal_59 : decode cJ21_putVal 59 = .ok (.aastore, 1) := dk_83 (dk_at dksJ21_putVal_2 12 rfl rfl)
theorem dJ21_putVal_60 : decode cJ21_putVal 60 = .ok (.goto 199, 3) := dk_167 0 199 (dk_at dksJ21_putVal_2 13 rfl rfl)
theorem dJ21_putVal_63 : decode cJ21_putVal 63 = .ok (.aload 7, 2) := dk_25 7 (dk_at dksJ21_putVal_2 16 rfl rfl)
theorem dJ21_putVal_65 : decode cJ21_putVal 65 = .ok (.getfield 168, 3) := dk_180 0 168 (dk_at dksJ21_putVal_2 18 rfl rfl)
theorem dJ21_putVal_68 : decode cJ21_putVal 68 = .ok (.iload_n 1, 1) := dk_27 (dk_at dksJ21_putVal_2 21 rfl rfl)
theorem dJ21_putVal_69 : decode cJ21_putVal 69 = .ok (.if_icmp .ne 35, 3) := dk_160 0 35 (dk_at dksJ21_putVal_3 0 rfl rfl)
theorem dJ21_putVal_72 : decode cJ21_putVal 72 = .ok (.aload 7, 2) := dk_25 7 (dk_at dksJ21_putVal_3 3 rfl rfl)
theorem dJ21_putVal_74 : decode cJ21_putVal 74 = .ok (.getfield 170, 3) := dk_180 0 170 (dk_at dksJ21_putVal_3 5 rfl rfl)
theorem dJ21_putVal_77 : decode cJ21_putVal 77 = .ok (.dup, 1) := dk_89 (dk_at dksJ21_putVal_3 8 rfl rfl)
theorem dJ21_putVal_78 : decode cJ21_putVal 78 = .ok (.astore 11, 2) := dk_58 11 (dk_at dksJ21_putVal_3 9 rfl rfl)
theorem dJ21_putVal_80 : decode cJ21_putVal 80 = .ok (.aload_n 2, 1) := dk_44 (dk_at dksJ21_putVal_3 11 rfl rfl)
theorem dJ21_putVal_81 : decode cJ21_putVal 81 = .ok (.if_acmp .eq 16, 3) := dk_165 0 16 (dk_at dksJ21_putVal_3 12 rfl rfl)
theorem dJ21_putVal_84 : decode cJ21_putVal 84 = .ok (.aload_n 2, 1) := dk_44 (dk_at dksJ21_putVal_3 15 rfl rfl)
theorem dJ21_putVal_85 : decode cJ21_putVal 85 = .ok (.ifnull 19, 3) := dk_198 0 19 (dk_at dksJ21_putVal_3 16 rfl rfl)
theorem dJ21_putVal_88 : decode cJ21_putVal 88 = .ok (.aload_n 2, 1) := dk_44 (dk_at dksJ21_putVal_3 19 rfl rfl)
theorem dJ21_putVal_89 : decode cJ21_putVal 89 = .ok (.aload 11, 2) := dk_25 11 (dk_at dksJ21_putVal_3 20 rfl rfl)
theorem dJ21_putVal_91 : decode cJ21_putVal 91 = .ok (.invokevirtual 173, 3) := dk_182 0 173 (dk_at dksJ21_putVal_4 0 rfl rfl)
theorem dJ21_putVal_94 : decode cJ21_putVal 94 = .ok (.ifCond .eq 10, 3) := dk_153 0 10 (dk_at dksJ21_putVal_4 3 rfl rfl)
theorem dJ21_putVal_97 : decode cJ21_putVal 97 = .ok (.aload 7, 2) := dk_25 7 (dk_at dksJ21_putVal_4 6 rfl rfl)
theorem dJ21_putVal_99 : decode cJ21_putVal 99 = .ok (.astore 10, 2) := dk_58 10 (dk_at dksJ21_putVal_4 8 rfl rfl)
theorem dJ21_putVal_101 : decode cJ21_putVal 101 = .ok (.goto 121, 3) := dk_167 0 121 (dk_at dksJ21_putVal_4 10 rfl rfl)
theorem dJ21_putVal_104 : decode cJ21_putVal 104 = .ok (.aload 7, 2) := dk_25 7 (dk_at dksJ21_putVal_4 13 rfl rfl)
theorem dJ21_putVal_106 : decode cJ21_putVal 106 = .ok (.instanceof 180, 3) := dk_193 0 180 (dk_at dksJ21_putVal_4 15 rfl rfl)
theorem dJ21_putVal_109 : decode cJ21_putVal 109 = .ok (.ifCond .eq 22, 3) := dk_153 0 22 (dk_at dksJ21_putVal_4 18 rfl rfl)
theorem dJ21_putVal_112 : decode cJ21_putVal 112 = .ok (.aload 7, 2) := dk_25 7 (dk_at dksJ21_putVal_4 21 rfl rfl)
theorem dJ21_putVal_114 : decode cJ21_putVal 114 = .ok (.checkcast 180, 3) := dk_192 0 180 (dk_at dksJ21_putVal_5 0 rfl rfl)
theorem dJ21_putVal_117 : decode cJ21_putVal 117 = .ok (.aload_n 0, 1) := dk_42 (dk_at dksJ21_putVal_5 3 rfl rfl)
theorem dJ21_putVal_118 : decode cJ21_putVal 118 = .ok (.aload 6, 2) := dk_25 6 (dk_at dksJ21_putVal_5 4 rfl rfl)
theorem dJ21_putVal_120 : decode cJ21_putVal 120 = .ok (.iload_n 1, 1) := dk_27 (dk_at dksJ21_putVal_5 6 rfl rfl)
theorem dJ21_putVal_121 : decode cJ21_putVal 121 = .ok (.aload_n 2, 1) := dk_44 (dk_at dksJ21_putVal_5 7 rfl rfl)
theorem dJ21_putVal_122 : decode cJ21_putVal 122 = .ok (.aload_n 3, 1) := dk_45 (dk_at dksJ21_putVal_5 8 rfl rfl)
theorem dJ21_putVal_123 : decode cJ21_putVal 123 = .ok (.invokevirtual 190, 3) := dk_182 0 190 (dk_at dksJ21_putVal_5 9 rfl rfl)
theorem dJ21_putVal_126 : decode cJ21_putVal 126 = .ok (.astore 10, 2) := dk_58 10 (dk_at dksJ21_putVal_5 12 rfl rfl)
theorem dJ21_putVal_128 : decode cJ21_putVal 128 = .ok (.goto 94, 3) := dk_167 0 94 (dk_at dksJ21_putVal_5 14 rfl rfl)
theorem dJ21_putVal_131 : decode cJ21_putVal 131 = .ok (.iconst 0, 1) := dk_3 (dk_at dksJ21_putVal_5 17 rfl rfl)
theorem dJ21_putVal_132 : decode cJ21_putVal 132 = .ok (.istore 12, 2) := dk_54 12 (dk_at dksJ21_putVal_5 18 rfl rfl)
theorem dJ21_putVal_134 : decode cJ21_putVal 134 = .ok (.aload 7, 2) := dk_25 7 (dk_at dksJ21_putVal_5 20 rfl rfl)
theorem dJ21_putVal_136 : decode cJ21_putVal 136 = .ok (.getfield 177, 3) := dk_180 0 177 (dk_at dksJ21_putVal_6 0 rfl rfl)
theorem dJ21_putVal_139 : decode cJ21_putVal 139 = .ok (.dup, 1) := dk_89 (dk_at dksJ21_putVal_6 3 rfl rfl)
theorem dJ21_putVal_140 : decode cJ21_putVal 140 = .ok (.astore 10, 2) := dk_58 10 (dk_at dksJ21_putVal_6 4 rfl rfl)
theorem dJ21_putVal_142 : decode cJ21_putVal 142 = .ok (.ifnonnull 33, 3) := dk_199 0 33 (dk_at dksJ21_putVal_6 6 rfl rfl)
theorem dJ21_putVal_145 : decode cJ21_putVal 145 = .ok (.aload 7, 2) := dk_25 7 (dk_at dksJ21_putVal_6 9 rfl rfl)
theorem dJ21_putVal_147 : decode cJ21_putVal 147 = .ok (.aload_n 0, 1) := dk_42 (dk_at dksJ21_putVal_6 11 rfl rfl)
theorem dJ21_putVal_148 : decode cJ21_putVal 148 = .ok (.iload_n 1, 1) := dk_27 (dk_at dksJ21_putVal_6 12 rfl rfl)
theorem dJ21_putVal_149 : decode cJ21_putVal 149 = .ok (.aload_n 2, 1) := dk_44 (dk_at dksJ21_putVal_6 13 rfl rfl)
theorem dJ21_putVal_150 : decode cJ21_putVal 150 = .ok (.aload_n 3, 1) := dk_45 (dk_at dksJ21_putVal_6 14 rfl rfl)
theorem dJ21_putVal_151 : decode cJ21_putVal 151 = .ok (.aconst_null, 1) := dk_1 (dk_at dksJ21_putVal_6 15 rfl rfl)
theorem dJ21_putVal_152 : decode cJ21_putVal 152 = .ok (.invokevirtual 186, 3) := dk_182 0 186 (dk_at dksJ21_putVal_6 16 rfl rfl)
theorem dJ21_putVal_155 : decode cJ21_putVal 155 = .ok (.putfield 177, 3) := dk_181 0 177 (dk_at dksJ21_putVal_6 19 rfl rfl)
theorem dJ21_putVal_158 : decode cJ21_putVal 158 = .ok (.iload 12, 2) := dk_21 12 (dk_at dksJ21_putVal_6 22 rfl rfl)
theorem dJ21_putVal_160 : decode cJ21_putVal 160 = .ok (.bipush 7, 2) := dk_16 7 (dk_at dksJ21_putVal_7 0 rfl rfl)
theorem dJ21_putVal_162 : decode cJ21_putVal 162 = .ok (.if_icmp .lt 60, 3) := dk_161 0 60 (dk_at dksJ21_putVal_7 2 rfl rfl)
theorem dJ21_putVal_165 : decode cJ21_putVal 165 = .ok (.aload_n 0, 1) := dk_42 (dk_at dksJ21_putVal_7 5 rfl rfl)
theorem dJ21_putVal_166 : decode cJ21_putVal 166 = .ok (.aload 6, 2) := dk_25 6 (dk_at dksJ21_putVal_7 6 rfl rfl)
theorem dJ21_putVal_168 : decode cJ21_putVal 168 = .ok (.iload_n 1, 1) := dk_27 (dk_at dksJ21_putVal_7 8 rfl rfl)
theorem dJ21_putVal_169 : decode cJ21_putVal 169 = .ok (.invokevirtual 194, 3) := dk_182 0 194 (dk_at dksJ21_putVal_7 9 rfl rfl)
theorem dJ21_putVal_172 : decode cJ21_putVal 172 = .ok (.goto 50, 3) := dk_167 0 50 (dk_at dksJ21_putVal_7 12 rfl rfl)
theorem dJ21_putVal_175 : decode cJ21_putVal 175 = .ok (.aload 10, 2) := dk_25 10 (dk_at dksJ21_putVal_7 15 rfl rfl)
theorem dJ21_putVal_177 : decode cJ21_putVal 177 = .ok (.getfield 168, 3) := dk_180 0 168 (dk_at dksJ21_putVal_7 17 rfl rfl)
theorem dJ21_putVal_180 : decode cJ21_putVal 180 = .ok (.iload_n 1, 1) := dk_27 (dk_at dksJ21_putVal_7 20 rfl rfl)
theorem dJ21_putVal_181 : decode cJ21_putVal 181 = .ok (.if_icmp .ne 31, 3) := dk_160 0 31 (dk_at dksJ21_putVal_7 21 rfl rfl)
theorem dJ21_putVal_184 : decode cJ21_putVal 184 = .ok (.aload 10, 2) := dk_25 10 (dk_at dksJ21_putVal_8 0 rfl rfl)
theorem dJ21_putVal_186 : decode cJ21_putVal 186 = .ok (.getfield 170, 3) := dk_180 0 170 (dk_at dksJ21_putVal_8 2 rfl rfl)
theorem dJ21_putVal_189 : decode cJ21_putVal 189 = .ok (.dup, 1) := dk_89 (dk_at dksJ21_putVal_8 5 rfl rfl)
theorem dJ21_putVal_190 : decode cJ21_putVal 190 = .ok (.astore 11, 2) := dk_58 11 (dk_at dksJ21_putVal_8 6 rfl rfl)
theorem dJ21_putVal_192 : decode cJ21_putVal 192 = .ok (.aload_n 2, 1) := dk_44 (dk_at dksJ21_putVal_8 8 rfl rfl)
theorem dJ21_putVal_193 : decode cJ21_putVal 193 = .ok (.if_acmp .eq 29, 3) := dk_165 0 29 (dk_at dksJ21_putVal_8 9 rfl rfl)
theorem dJ21_putVal_196 : decode cJ21_putVal 196 = .ok (.aload_n 2, 1) := dk_44 (dk_at dksJ21_putVal_8 12 rfl rfl)
theorem dJ21_putVal_197 : decode cJ21_putVal 197 = .ok (.ifnull 15, 3) := dk_198 0 15 (dk_at dksJ21_putVal_8 13 rfl rfl)
theorem dJ21_putVal_200 : decode cJ21_putVal 200 = .ok (.aload_n 2, 1) := dk_44 (dk_at dksJ21_putVal_8 16 rfl rfl)
theorem dJ21_putVal_201 : decode cJ21_putVal 201 = .ok (.aload 11, 2) := dk_25 11 (dk_at dksJ21_putVal_8 17 rfl rfl)
theorem dJ21_putVal_203 : decode cJ21_putVal 203 = .ok (.invokevirtual 173, 3) := dk_182 0 173 (dk_at dksJ21_putVal_8 19 rfl rfl)
theorem dJ21_putVal_206 : decode cJ21_putVal 206 = .ok (.ifCond .eq 6, 3) := dk_153 0 6 (dk_at dksJ21_putVal_9 0 rfl rfl)
theorem dJ21_putVal_209 : decode cJ21_putVal 209 = .ok (.goto 13, 3) := dk_167 0 13 (dk_at dksJ21_putVal_9 3 rfl rfl)
theorem dJ21_putVal_212 : decode cJ21_putVal 212 = .ok (.aload 10, 2) := dk_25 10 (dk_at dksJ21_putVal_9 6 rfl rfl)
theorem dJ21_putVal_214 : decode cJ21_putVal 214 = .ok (.astore 7, 2) := dk_58 7 (dk_at dksJ21_putVal_9 8 rfl rfl)
theorem dJ21_putVal_216 : decode cJ21_putVal 216 = .ok (.iinc 12 1, 3) := dk_132 12 1 (dk_at dksJ21_putVal_9 10 rfl rfl)
theorem dJ21_putVal_219 : decode cJ21_putVal 219 = .ok (.goto (-85), 3) := dk_167 255 171 (dk_at dksJ21_putVal_9 13 rfl rfl)
theorem dJ21_putVal_222 : decode cJ21_putVal 222 = .ok (.aload 10, 2) := dk_25 10 (dk_at dksJ21_putVal_9 16 rfl rfl)
theorem dJ21_putVal_224 : decode cJ21_putVal 224 = .ok (.ifnull 35, 3) := dk_198 0 35 (dk_at dksJ21_putVal_9 18 rfl rfl)
theorem dJ21_putVal_227 : decode cJ21_putVal 227 = .ok (.aload 10, 2) := dk_25 10 (dk_at dksJ21_putVal_9 21 rfl rfl)
theorem dJ21_putVal_229 : decode cJ21_putVal 229 = .ok (.getfield 162, 3) := dk_180 0 162 (dk_at dksJ21_putVal_10 0 rfl rfl)
theorem dJ21_putVal_232 : decode cJ21_putVal 232 = .ok (.astore 12, 2) := dk_58 12 (dk_at dksJ21_putVal_10 3 rfl rfl)
theorem dJ21_putVal_234 : decode cJ21_putVal 234 = .ok (.iload 4, 2) := dk_21 4 (dk_at dksJ21_putVal_10 5 rfl rfl)
theorem dJ21_putVal_236 : decode cJ21_putVal 236 = .ok (.ifCond .eq 8, 3) := dk_153 0 8 (dk_at dksJ21_putVal_10 7 rfl rfl)
theorem dJ21_putVal_239 : decode cJ21_putVal 239 = .ok (.aload 12, 2) := dk_25 12 (dk_at dksJ21_putVal_10 10 rfl rfl)
theorem dJ21_putVal_241 : decode cJ21_putVal 241 = .ok (.ifnonnull 9, 3) := dk_199 0 9 (dk_at dksJ21_putVal_10 12 rfl rfl)
theorem dJ21_putVal_244 : decode cJ21_putVal 244 = .ok (.aload 10, 2) := dk_25 10 (dk_at dksJ21_putVal_10 15 rfl rfl)
theorem dJ21_putVal_246 : decode cJ21_putVal 246 = .ok (.aload_n 3, 1) := dk_45 (dk_at dksJ21_putVal_10 17 rfl rfl)
theorem dJ21_putVal_247 : decode cJ21_putVal 247 = .ok (.putfield 162, 3) := dk_181 0 162 (dk_at dksJ21_putVal_10 18 rfl rfl)
theorem dJ21_putVal_250 : decode cJ21_putVal 250 = .ok (.aload_n 0, 1) := dk_42 (dk_at dksJ21_putVal_10 21 rfl rfl)
theorem dJ21_putVal_251 : decode cJ21_putVal 251 = .ok (.aload 10, 2) := dk_25 10 (dk_at dksJ21_putVal_10 22 rfl rfl)
theorem dJ21_putVal_253 : decode cJ21_putVal 253 = .ok (.invokevirtual 198, 3) := dk_182 0 198 (dk_at dksJ21_putVal_11 0 rfl rfl)
theorem dJ21_putVal_256 : decode cJ21_putVal 256 = .ok (.aload 12, 2) := dk_25 12 (dk_at dksJ21_putVal_11 3 rfl rfl)
theorem dJ21_putVal_258 : decode cJ21_putVal 258 = .ok (.areturn, 1) := dk_176 (dk_at dksJ21_putVal_11 5 rfl rfl)
theorem dJ21_putVal_259 : decode cJ21_putVal 259 = .ok (.aload_n 0, 1) := dk_42 (dk_at dksJ21_putVal_11 6 rfl rfl)
theorem dJ21_putVal_260 : decode cJ21_putVal 260 = .ok (.dup, 1) := dk_89 (dk_at dksJ21_putVal_11 7 rfl rfl)
theorem dJ21_putVal_261 : decode cJ21_putVal 261 = .ok (.getfield 202, 3) := dk_180 0 202 (dk_at dksJ21_putVal_11 8 rfl rfl)
theorem dJ21_putVal_264 : decode cJ21_putVal 264 = .ok (.iconst 1, 1) := dk_4 (dk_at dksJ21_putVal_11 11 rfl rfl)
theorem dJ21_putVal_265 : decode cJ21_putVal 265 = .ok (.iadd, 1) := dk_96 (dk_at dksJ21_putVal_11 12 rfl rfl)
theorem dJ21_putVal_266 : decode cJ21_putVal 266 = .ok (.putfield 202, 3) := dk_181 0 202 (dk_at dksJ21_putVal_11 13 rfl rfl)
theorem dJ21_putVal_269 : decode cJ21_putVal 269 = .ok (.aload_n 0, 1) := dk_42 (dk_at dksJ21_putVal_11 16 rfl rfl)
theorem dJ21_putVal_270 : decode cJ21_putVal 270 = .ok (.dup, 1) := dk_89 (dk_at dksJ21_putVal_11 17 rfl rfl)
theorem dJ21_putVal_271 : decode cJ21_putVal 271 = .ok (.getfield 156, 3) := dk_180 0 156 (dk_at dksJ21_putVal_11 18 rfl rfl)
theorem dJ21_putVal_274 : decode cJ21_putVal 274 = .ok (.iconst 1, 1) := dk_4 (dk_at dksJ21_putVal_11 21 rfl rfl)
theorem dJ21_putVal_275 : decode cJ21_putVal 275 = .ok (.iadd, 1) := dk_96 (dk_at dksJ21_putVal_11 22 rfl rfl)
theorem dJ21_putVal_276 : decode cJ21_putVal 276 = .ok (.dup_x1, 1) := dk_90 (dk_at dksJ21_putVal_11 23 rfl rfl)
theorem dJ21_putVal_277 : decode cJ21_putVal 277 = .ok (.putfield 156, 3) := dk_181 0 156 (dk_at dksJ21_putVal_12 0 rfl rfl)
theorem dJ21_putVal_280 : decode cJ21_putVal 280 = .ok (.aload_n 0, 1) := dk_42 (dk_at dksJ21_putVal_12 3 rfl rfl)
theorem dJ21_putVal_281 : decode cJ21_putVal 281 = .ok (.getfield 88, 3) := dk_180 0 88 (dk_at dksJ21_putVal_12 4 rfl rfl)
theorem dJ21_putVal_284 : decode cJ21_putVal 284 = .ok (.if_icmp .le 8, 3) := dk_164 0 8 (dk_at dksJ21_putVal_12 7 rfl rfl)
theorem dJ21_putVal_287 : decode cJ21_putVal 287 = .ok (.aload_n 0, 1) := dk_42 (dk_at dksJ21_putVal_12 10 rfl rfl)
theorem dJ21_putVal_288 : decode cJ21_putVal 288 = .ok (.invokevirtual 117, 3) := dk_182 0 117 (dk_at dksJ21_putVal_12 11 rfl rfl)
theorem dJ21_putVal_291 : decode cJ21_putVal 291 = .ok (.pop, 1) := dk_87 (dk_at dksJ21_putVal_12 14 rfl rfl)
theorem dJ21_putVal_292 : decode cJ21_putVal 292 = .ok (.aload_n 0, 1) := dk_42 (dk_at dksJ21_putVal_12 15 rfl rfl)
theorem dJ21_putVal_293 : decode cJ21_putVal 293 = .ok (.iload 5, 2) := dk_21 5 (dk_at dksJ21_putVal_12 16 rfl rfl)
theorem dJ21_putVal_295 : decode cJ21_putVal 295 = .ok (.invokevirtual 205, 3) := dk_182 0 205 (dk_at dksJ21_putVal_12 18 rfl rfl)
theorem dJ21_putVal_298 : decode cJ21_putVal 298 = .ok (.aconst_null, 1) := dk_1 (dk_at dksJ21_putVal_12 21 rfl rfl)
theorem dJ21_putVal_299 : decode cJ21_putVal 299 = .ok (.areturn, 1) := dk_176 (dk_at dksJ21_putVal_12 22 rfl rfl)
abbrev cJ21_resize : ByteArray := prog_47_method_17_code
def yJ21_resize : MethodName := ⟨RJ21, "resize", "()[Ljava/util/HashMap$Node;"⟩
def dkwJ21_resize_15 : List UInt8 := [25, 6, 176]
abbrev dktJ21_resize_15 : List UInt8 := dkwJ21_resize_15 ++ []
def dkwJ21_resize_14 : List UInt8 := [198, 0, 18, 25, 12, 1, 181, 0, 177, 25, 6, 21, 7, 28, 96, 25, 11, 83, 132, 7, 1, 167, 255, 57]
abbrev dktJ21_resize_14 : List UInt8 := dkwJ21_resize_14 ++ dktJ21_resize_15
def dkwJ21_resize_13 : List UInt8 := [199, 255, 185, 25, 10, 198, 0, 16, 25, 10, 1, 181, 0, 177, 25, 6, 21, 7, 25, 9, 83, 25, 12]
abbrev dktJ21_resize_13 : List UInt8 := dkwJ21_resize_13 ++ dktJ21_resize_14
def dkwJ21_resize_12 : List UInt8 := [25, 8, 58, 11, 167, 0, 10, 25, 12, 25, 8, 181, 0, 177, 25, 8, 58, 12, 25, 13, 89, 58, 8]
abbrev dktJ21_resize_12 : List UInt8 := dkwJ21_resize_12 ++ dktJ21_resize_13
def dkwJ21_resize_11 : List UInt8 := [58, 9, 167, 0, 10, 25, 10, 25, 8, 181, 0, 177, 25, 8, 58, 10, 167, 0, 26, 25, 12, 199, 0, 10]
abbrev dktJ21_resize_11 : List UInt8 := dkwJ21_resize_11 ++ dktJ21_resize_12
def dkwJ21_resize_10 : List UInt8 := [25, 8, 180, 0, 177, 58, 13, 25, 8, 180, 0, 168, 28, 126, 154, 0, 29, 25, 10, 199, 0, 10, 25, 8]
abbrev dktJ21_resize_10 : List UInt8 := dkwJ21_resize_10 ++ dktJ21_resize_11
def dkwJ21_resize_9 : List UInt8 := [42, 25, 6, 21, 7, 28, 182, 0, 211, 167, 0, 127, 1, 58, 9, 1, 58, 10, 1, 58, 11, 1, 58, 12]
abbrev dktJ21_resize_9 : List UInt8 := dkwJ21_resize_9 ++ dktJ21_resize_10
def dkwJ21_resize_8 : List UInt8 := [21, 4, 4, 100, 126, 25, 8, 83, 167, 0, 152, 25, 8, 193, 0, 180, 153, 0, 20, 25, 8, 192, 0, 180]
abbrev dktJ21_resize_8 : List UInt8 := dkwJ21_resize_8 ++ dktJ21_resize_9
def dkwJ21_resize_7 : List UInt8 := [198, 0, 183, 43, 21, 7, 1, 83, 25, 8, 180, 0, 177, 199, 0, 21, 25, 6, 25, 8, 180, 0, 168]
abbrev dktJ21_resize_7 : List UInt8 := dkwJ21_resize_7 ++ dktJ21_resize_8
def dkwJ21_resize_6 : List UInt8 := [181, 0, 105, 43, 198, 0, 208, 3, 54, 7, 21, 7, 28, 162, 0, 199, 43, 21, 7, 50, 89, 58, 8]
abbrev dktJ21_resize_6 : List UInt8 := dkwJ21_resize_6 ++ dktJ21_resize_7
def dkwJ21_resize_5 : List UInt8 := [167, 0, 5, 18, 209, 54, 5, 42, 21, 5, 181, 0, 88, 21, 4, 189, 0, 163, 58, 6, 42, 25, 6]
abbrev dktJ21_resize_5 : List UInt8 := dkwJ21_resize_5 ++ dktJ21_resize_6
def dkwJ21_resize_4 : List UInt8 := [180, 0, 81, 106, 56, 6, 21, 4, 18, 42, 162, 0, 17, 23, 6, 18, 210, 150, 156, 0, 9, 23, 6, 139]
abbrev dktJ21_resize_4 : List UInt8 := dkwJ21_resize_4 ++ dktJ21_resize_5
def dkwJ21_resize_3 : List UInt8 := [54, 4, 167, 0, 11, 16, 16, 54, 4, 16, 12, 54, 5, 21, 5, 154, 0, 38, 21, 4, 134, 42]
abbrev dktJ21_resize_3 : List UInt8 := dkwJ21_resize_3 ++ dktJ21_resize_4
def dkwJ21_resize_2 : List UInt8 := [18, 42, 162, 0, 35, 28, 16, 16, 161, 0, 29, 29, 4, 120, 54, 5, 167, 0, 21, 29, 158, 0, 9, 29]
abbrev dktJ21_resize_2 : List UInt8 := dkwJ21_resize_2 ++ dktJ21_resize_3
def dkwJ21_resize_1 : List UInt8 := [28, 158, 0, 42, 28, 18, 42, 161, 0, 11, 42, 18, 209, 181, 0, 88, 43, 176, 28, 4, 120, 89, 54, 4]
abbrev dktJ21_resize_1 : List UInt8 := dkwJ21_resize_1 ++ dktJ21_resize_2
def dkwJ21_resize_0 : List UInt8 := [42, 180, 0, 105, 76, 43, 199, 0, 7, 3, 167, 0, 5, 43, 190, 61, 42, 180, 0, 88, 62, 3, 54, 5]
abbrev dktJ21_resize_0 : List UInt8 := dkwJ21_resize_0 ++ dktJ21_resize_1
theorem dksJ21_resize_0 : cJ21_resize.data.toList.drop 0 = dktJ21_resize_0 := by decide +kernel
theorem dksJ21_resize_1 : cJ21_resize.data.toList.drop 24 = dktJ21_resize_1 := dk_seg dksJ21_resize_0 24 rfl rfl
theorem dksJ21_resize_2 : cJ21_resize.data.toList.drop 48 = dktJ21_resize_2 := dk_seg dksJ21_resize_1 24 rfl rfl
theorem dksJ21_resize_3 : cJ21_resize.data.toList.drop 72 = dktJ21_resize_3 := dk_seg dksJ21_resize_2 24 rfl rfl
theorem dksJ21_resize_4 : cJ21_resize.data.toList.drop 94 = dktJ21_resize_4 := dk_seg dksJ21_resize_3 22 rfl rfl
theorem dksJ21_resize_5 : cJ21_resize.data.toList.drop 118 = dktJ21_resize_5 := dk_seg dksJ21_resize_4 24 rfl rfl
theorem dksJ21_resize_6 : cJ21_resize.data.toList.drop 141 = dktJ21_resize_6 := dk_seg dksJ21_resize_5 23 rfl rfl
theorem dksJ21_resize_7 : cJ21_resize.data.toList.drop 164 = dktJ21_resize_7 := dk_seg dksJ21_resize_6 23 rfl rfl
theorem dksJ21_resize_8 : cJ21_resize.data.toList.drop 187 = dktJ21_resize_8 := dk_seg dksJ21_resize_7 23 rfl rfl
theorem dksJ21_resize_9 : cJ21_resize.data.toList.drop 211 = dktJ21_resize_9 := dk_seg dksJ21_resize_8 24 rfl rfl
theorem dksJ21_resize_10 : cJ21_resize.data.toList.drop 235 = dktJ21_resize_10 := dk_seg dksJ21_resize_9 24 rfl rfl
theorem dksJ21_resize_11 : cJ21_resize.data.toList.drop 259 = dktJ21_resize_11 := dk_seg dksJ21_resize_10 24 rfl rfl
theorem dksJ21_resize_12 : cJ21_resize.data.toList.drop 283 = dktJ21_resize_12 := dk_seg dksJ21_resize_11 24 rfl rfl
theorem dksJ21_resize_13 : cJ21_resize.data.toList.drop 306 = dktJ21_resize_13 := dk_seg dksJ21_resize_12 23 rfl rfl
theorem dksJ21_resize_14 : cJ21_resize.data.toList.drop 329 = dktJ21_resize_14 := dk_seg dksJ21_resize_13 23 rfl rfl
theorem dksJ21_resize_15 : cJ21_resize.data.toList.drop 353 = dktJ21_resize_15 := dk_seg dksJ21_resize_14 24 rfl rfl
theorem dJ21_resize_0 : decode cJ21_resize 0 = .ok (.aload_n 0, 1) := dk_42 (dk_at dksJ21_resize_0 0 rfl rfl)
theorem dJ21_resize_1 : decode cJ21_resize 1 = .ok (.getfield 105, 3) := dk_180 0 105 (dk_at dksJ21_resize_0 1 rfl rfl)
theorem dJ21_resize_4 : decode cJ21_resize 4 = .ok (.astore_n 1, 1) := dk_76 (dk_at dksJ21_resize_0 4 rfl rfl)
theorem dJ21_resize_5 : decode cJ21_resize 5 = .ok (.aload_n 1, 1) := dk_43 (dk_at dksJ21_resize_0 5 rfl rfl)
theorem dJ21_resize_6 : decode cJ21_resize 6 = .ok (.ifnonnull 7, 3) := dk_199 0 7 (dk_at dksJ21_resize_0 6 rfl rfl)
theorem dJ21_resize_9 : decode cJ21_resize 9 = .ok (.iconst 0, 1) := dk_3 (dk_at dksJ21_resize_0 9 rfl rfl)
theorem dJ21_resize_10 : decode cJ21_resize 10 = .ok (.goto 5, 3) := dk_167 0 5 (dk_at dksJ21_resize_0 10 rfl rfl)
theorem dJ21_resize_13 : decode cJ21_resize 13 = .ok (.aload_n 1, 1) := dk_43 (dk_at dksJ21_resize_0 13 rfl rfl)
theorem dJ21_resize_14 : decode cJ21_resize 14 = .ok (.arraylength, 1) := dk_190 (dk_at dksJ21_resize_0 14 rfl rfl)
theorem dJ21_resize_15 : decode cJ21_resize 15 = .ok (.istore_n 2, 1) := dk_61 (dk_at dksJ21_resize_0 15 rfl rfl)
theorem dJ21_resize_16 : decode cJ21_resize 16 = .ok (.aload_n 0, 1) := dk_42 (dk_at dksJ21_resize_0 16 rfl rfl)
theorem dJ21_resize_17 : decode cJ21_resize 17 = .ok (.getfield 88, 3) := dk_180 0 88 (dk_at dksJ21_resize_0 17 rfl rfl)
theorem dJ21_resize_20 : decode cJ21_resize 20 = .ok (.istore_n 3, 1) := dk_62 (dk_at dksJ21_resize_0 20 rfl rfl)
theorem dJ21_resize_21 : decode cJ21_resize 21 = .ok (.iconst 0, 1) := dk_3 (dk_at dksJ21_resize_0 21 rfl rfl)
theorem dJ21_resize_22 : decode cJ21_resize 22 = .ok (.istore 5, 2) := dk_54 5 (dk_at dksJ21_resize_0 22 rfl rfl)
theorem dJ21_resize_24 : decode cJ21_resize 24 = .ok (.iload_n 2, 1) := dk_28 (dk_at dksJ21_resize_1 0 rfl rfl)
theorem dJ21_resize_25 : decode cJ21_resize 25 = .ok (.ifCond .le 42, 3) := dk_158 0 42 (dk_at dksJ21_resize_1 1 rfl rfl)
theorem dJ21_resize_28 : decode cJ21_resize 28 = .ok (.iload_n 2, 1) := dk_28 (dk_at dksJ21_resize_1 4 rfl rfl)
theorem dJ21_resize_29 : decode cJ21_resize 29 = .ok (.ldc 42, 2) := dk_18 42 (dk_at dksJ21_resize_1 5 rfl rfl)
theorem dJ21_resize_31 : decode cJ21_resize 31 = .ok (.if_icmp .lt 11, 3) := dk_161 0 11 (dk_at dksJ21_resize_1 7 rfl rfl)
theorem dJ21_resize_34 : decode cJ21_resize 34 = .ok (.aload_n 0, 1) := dk_42 (dk_at dksJ21_resize_1 10 rfl rfl)
theorem dJ21_resize_35 : decode cJ21_resize 35 = .ok (.ldc 209, 2) := dk_18 209 (dk_at dksJ21_resize_1 11 rfl rfl)
theorem dJ21_resize_37 : decode cJ21_resize 37 = .ok (.putfield 88, 3) := dk_181 0 88 (dk_at dksJ21_resize_1 13 rfl rfl)
theorem dJ21_resize_40 : decode cJ21_resize 40 = .ok (.aload_n 1, 1) := dk_43 (dk_at dksJ21_resize_1 16 rfl rfl)
theorem dJ21_resize_41 : decode cJ21_resize 41 = .ok (.areturn, 1) := dk_176 (dk_at dksJ21_resize_1 17 rfl rfl)
theorem dJ21_resize_42 : decode cJ21_resize 42 = .ok (.iload_n 2, 1) := dk_28 (dk_at dksJ21_resize_1 18 rfl rfl)
theorem dJ21_resize_43 : decode cJ21_resize 43 = .ok (.iconst 1, 1) := dk_4 (dk_at dksJ21_resize_1 19 rfl rfl)
theorem dJ21_resize_44 : decode cJ21_resize 44 = .ok (.ishl, 1) := dk_120 (dk_at dksJ21_resize_1 20 rfl rfl)
theorem dJ21_resize_45 : decode cJ21_resize 45 = .ok (.dup, 1) := dk_89 (dk_at dksJ21_resize_1 21 rfl rfl)
theorem dJ21_resize_46 : decode cJ21_resize 46 = .ok (.istore 4, 2) := dk_54 4 (dk_at dksJ21_resize_1 22 rfl rfl)
theorem dJ21_resize_48 : decode cJ21_resize 48 = .ok (.ldc 42, 2) := dk_18 42 (dk_at dksJ21_resize_2 0 rfl rfl)
theorem dJ21_resize_50 : decode cJ21_resize 50 = .ok (.if_icmp .ge 35, 3) := dk_162 0 35 (dk_at dksJ21_resize_2 2 rfl rfl)
theorem dJ21_resize_53 : decode cJ21_resize 53 = .ok (.iload_n 2, 1) := dk_28 (dk_at dksJ21_resize_2 5 rfl rfl)
theorem dJ21_resize_54 : decode cJ21_resize 54 = .ok (.bipush 16, 2) := dk_16 16 (dk_at dksJ21_resize_2 6 rfl rfl)
theorem dJ21_resize_56 : decode cJ21_resize 56 = .ok (.if_icmp .lt 29, 3) := dk_161 0 29 (dk_at dksJ21_resize_2 8 rfl rfl)
theorem dJ21_resize_59 : decode cJ21_resize 59 = .ok (.iload_n 3, 1) := dk_29 (dk_at dksJ21_resize_2 11 rfl rfl)
theorem dJ21_resize_60 : decode cJ21_resize 60 = .ok (.iconst 1, 1) := dk_4 (dk_at dksJ21_resize_2 12 rfl rfl)
theorem dJ21_resize_61 : decode cJ21_resize 61 = .ok (.ishl, 1) := dk_120 (dk_at dksJ21_resize_2 13 rfl rfl)
theorem dJ21_resize_62 : decode cJ21_resize 62 = .ok (.istore 5, 2) := dk_54 5 (dk_at dksJ21_resize_2 14 rfl rfl)
theorem dJ21_resize_64 : decode cJ21_resize 64 = .ok (.goto 21, 3) := dk_167 0 21 (dk_at dksJ21_resize_2 16 rfl rfl)
theorem dJ21_resize_67 : decode cJ21_resize 67 = .ok (.iload_n 3, 1) := dk_29 (dk_at dksJ21_resize_2 19 rfl rfl)
theorem dJ21_resize_68 : decode cJ21_resize 68 = .ok (.ifCond .le 9, 3) := dk_158 0 9 (dk_at dksJ21_resize_2 20 rfl rfl)
theorem dJ21_resize_71 : decode cJ21_resize 71 = .ok (.iload_n 3, 1) := dk_29 (dk_at dksJ21_resize_2 23 rfl rfl)
theorem dJ21_resize_72 : decode cJ21_resize 72 = .ok (.istore 4, 2) := dk_54 4 (dk_at dksJ21_resize_3 0 rfl rfl)
theorem dJ21_resize_74 : decode cJ21_resize 74 = .ok (.goto 11, 3) := dk_167 0 11 (dk_at dksJ21_resize_3 2 rfl rfl)
theorem dJ21_resize_77 : decode cJ21_resize 77 = .ok (.bipush 16, 2) := dk_16 16 (dk_at dksJ21_resize_3 5 rfl rfl)
theorem dJ21_resize_79 : decode cJ21_resize 79 = .ok (.istore 4, 2) := dk_54 4 (dk_at dksJ21_resize_3 7 rfl rfl)
theorem dJ21_resize_81 : decode cJ21_resize 81 = .ok (.bipush 12, 2) := dk_16 12 (dk_at dksJ21_resize_3 9 rfl rfl)
theorem dJ21_resize_83 : decode cJ21_resize 83 = .ok (.istore 5, 2) := dk_54 5 (dk_at dksJ21_resize_3 11 rfl rfl)
theorem dJ21_resize_85 : decode cJ21_resize 85 = .ok (.iload 5, 2) := dk_21 5 (dk_at dksJ21_resize_3 13 rfl rfl)
theorem dJ21_resize_87 : decode cJ21_resize 87 = .ok (.ifCond .ne 38, 3) := dk_154 0 38 (dk_at dksJ21_resize_3 15 rfl rfl)
theorem dJ21_resize_90 : decode cJ21_resize 90 = .ok (.iload 4, 2) := dk_21 4 (dk_at dksJ21_resize_3 18 rfl rfl)
theorem dJ21_resize_92 : decode cJ21_resize 92 = .ok (.i2f, 1) := dk_134 (dk_at dksJ21_resize_3 20 rfl rfl)
theorem dJ21_resize_93 : decode cJ21_resize 93 = .ok (.aload_n 0, 1) := dk_42 (dk_at dksJ21_resize_3 21 rfl rfl)
theorem dJ21_resize_94 : decode cJ21_resize 94 = .ok (.getfield 81, 3) := dk_180 0 81 (dk_at dksJ21_resize_4 0 rfl rfl)
theorem dJ21_resize_97 : decode cJ21_resize 97 = .ok (.fmul, 1) := dk_106 (dk_at dksJ21_resize_4 3 rfl rfl)
theorem dJ21_resize_98 : decode cJ21_resize 98 = .ok (.fstore 6, 2) := dk_56 6 (dk_at dksJ21_resize_4 4 rfl rfl)
theorem dJ21_resize_100 : decode cJ21_resize 100 = .ok (.iload 4, 2) := dk_21 4 (dk_at dksJ21_resize_4 6 rfl rfl)
theorem dJ21_resize_102 : decode cJ21_resize 102 = .ok (.ldc 42, 2) := dk_18 42 (dk_at dksJ21_resize_4 8 rfl rfl)
theorem dJ21_resize_104 : decode cJ21_resize 104 = .ok (.if_icmp .ge 17, 3) := dk_162 0 17 (dk_at dksJ21_resize_4 10 rfl rfl)
theorem dJ21_resize_107 : decode cJ21_resize 107 = .ok (.fload 6, 2) := dk_23 6 (dk_at dksJ21_resize_4 13 rfl rfl)
theorem dJ21_resize_109 : decode cJ21_resize 109 = .ok (.ldc 210, 2) := dk_18 210 (dk_at dksJ21_resize_4 15 rfl rfl)
theorem dJ21_resize_111 : decode cJ21_resize 111 = .ok (.fcmp .g, 1) := dk_150 (dk_at dksJ21_resize_4 17 rfl rfl)
theorem dJ21_resize_112 : decode cJ21_resize 112 = .ok (.ifCond .ge 9, 3) := dk_156 0 9 (dk_at dksJ21_resize_4 18 rfl rfl)
theorem dJ21_resize_115 : decode cJ21_resize 115 = .ok (.fload 6, 2) := dk_23 6 (dk_at dksJ21_resize_4 21 rfl rfl)
theorem dJ21_resize_117 : decode cJ21_resize 117 = .ok (.f2i, 1) := dk_139 (dk_at dksJ21_resize_4 23 rfl rfl)
theorem dJ21_resize_118 : decode cJ21_resize 118 = .ok (.goto 5, 3) := dk_167 0 5 (dk_at dksJ21_resize_5 0 rfl rfl)
theorem dJ21_resize_121 : decode cJ21_resize 121 = .ok (.ldc 209, 2) := dk_18 209 (dk_at dksJ21_resize_5 3 rfl rfl)
theorem dJ21_resize_123 : decode cJ21_resize 123 = .ok (.istore 5, 2) := dk_54 5 (dk_at dksJ21_resize_5 5 rfl rfl)
theorem dJ21_resize_125 : decode cJ21_resize 125 = .ok (.aload_n 0, 1) := dk_42 (dk_at dksJ21_resize_5 7 rfl rfl)
theorem dJ21_resize_126 : decode cJ21_resize 126 = .ok (.iload 5, 2) := dk_21 5 (dk_at dksJ21_resize_5 8 rfl rfl)
theorem dJ21_resize_128 : decode cJ21_resize 128 = .ok (.putfield 88, 3) := dk_181 0 88 (dk_at dksJ21_resize_5 10 rfl rfl)
theorem dJ21_resize_131 : decode cJ21_resize 131 = .ok (.iload 4, 2) := dk_21 4 (dk_at dksJ21_resize_5 13 rfl rfl)
theorem dJ21_resize_133 : decode cJ21_resize 133 = .ok (.anewarray 163, 3) := dk_189 0 163 (dk_at dksJ21_resize_5 15 rfl rfl)
theorem dJ21_resize_136 : decode cJ21_resize 136 = .ok (.astore 6, 2) := dk_58 6 (dk_at dksJ21_resize_5 18 rfl rfl)
theorem dJ21_resize_138 : decode cJ21_resize 138 = .ok (.aload_n 0, 1) := dk_42 (dk_at dksJ21_resize_5 20 rfl rfl)
theorem dJ21_resize_139 : decode cJ21_resize 139 = .ok (.aload 6, 2) := dk_25 6 (dk_at dksJ21_resize_5 21 rfl rfl)
theorem dJ21_resize_141 : decode cJ21_resize 141 = .ok (.putfield 105, 3) := dk_181 0 105 (dk_at dksJ21_resize_6 0 rfl rfl)
theorem dJ21_resize_144 : decode cJ21_resize 144 = .ok (.aload_n 1, 1) := dk_43 (dk_at dksJ21_resize_6 3 rfl rfl)
theorem dJ21_resize_145 : decode cJ21_resize 145 = .ok (.ifnull 208, 3) := dk_198 0 208 (dk_at dksJ21_resize_6 4 rfl rfl)
theorem dJ21_resize_148 : decode cJ21_resize 148 = .ok (.iconst 0, 1) := dk_3 (dk_at dksJ21_resize_6 7 rfl rfl)
theorem dJ21_resize_149 : decode cJ21_resize 149 = .ok (.istore 7, 2) := dk_54 7 (dk_at dksJ21_resize_6 8 rfl rfl)
theorem dJ21_resize_151 : decode cJ21_resize 151 = .ok (.iload 7, 2) := dk_21 7 (dk_at dksJ21_resize_6 10 rfl rfl)
theorem dJ21_resize_153 : decode cJ21_resize 153 = .ok (.iload_n 2, 1) := dk_28 (dk_at dksJ21_resize_6 12 rfl rfl)
theorem dJ21_resize_154 : decode cJ21_resize 154 = .ok (.if_icmp .ge 199, 3) := dk_162 0 199 (dk_at dksJ21_resize_6 13 rfl rfl)
theorem dJ21_resize_157 : decode cJ21_resize 157 = .ok (.aload_n 1, 1) := dk_43 (dk_at dksJ21_resize_6 16 rfl rfl)
theorem dJ21_resize_158 : decode cJ21_resize 158 = .ok (.iload 7, 2) := dk_21 7 (dk_at dksJ21_resize_6 17 rfl rfl)
theorem dJ21_resize_160 : decode cJ21_resize 160 = .ok (.aaload, 1) := dk_50 (dk_at dksJ21_resize_6 19 rfl rfl)
theorem dJ21_resize_161 : decode cJ21_resize 161 = .ok (.dup, 1) := dk_89 (dk_at dksJ21_resize_6 20 rfl rfl)
theorem dJ21_resize_162 : decode cJ21_resize 162 = .ok (.astore 8, 2) := dk_58 8 (dk_at dksJ21_resize_6 21 rfl rfl)
theorem dJ21_resize_164 : decode cJ21_resize 164 = .ok (.ifnull 183, 3) := dk_198 0 183 (dk_at dksJ21_resize_7 0 rfl rfl)
theorem dJ21_resize_167 : decode cJ21_resize 167 = .ok (.aload_n 1, 1) := dk_43 (dk_at dksJ21_resize_7 3 rfl rfl)
theorem dJ21_resize_168 : decode cJ21_resize 168 = .ok (.iload 7, 2) := dk_21 7 (dk_at dksJ21_resize_7 4 rfl rfl)
theorem dJ21_resize_170 : decode cJ21_resize 170 = .ok (.aconst_null, 1) := dk_1 (dk_at dksJ21_resize_7 6 rfl rfl)
theorem dJ21_resize_171 : decode cJ21_resize 171 = .ok (.aastore, 1) := dk_83 (dk_at dksJ21_resize_7 7 rfl rfl)
theorem dJ21_resize_172 : decode cJ21_resize 172 = .ok (.aload 8, 2) := dk_25 8 (dk_at dksJ21_resize_7 8 rfl rfl)
theorem dJ21_resize_174 : decode cJ21_resize 174 = .ok (.getfield 177, 3) := dk_180 0 177 (dk_at dksJ21_resize_7 10 rfl rfl)
theorem dJ21_resize_177 : decode cJ21_resize 177 = .ok (.ifnonnull 21, 3) := dk_199 0 21 (dk_at dksJ21_resize_7 13 rfl rfl)
theorem dJ21_resize_180 : decode cJ21_resize 180 = .ok (.aload 6, 2) := dk_25 6 (dk_at dksJ21_resize_7 16 rfl rfl)
theorem dJ21_resize_182 : decode cJ21_resize 182 = .ok (.aload 8, 2) := dk_25 8 (dk_at dksJ21_resize_7 18 rfl rfl)
theorem dJ21_resize_184 : decode cJ21_resize 184 = .ok (.getfield 168, 3) := dk_180 0 168 (dk_at dksJ21_resize_7 20 rfl rfl)
theorem dJ21_resize_187 : decode cJ21_resize 187 = .ok (.iload 4, 2) := dk_21 4 (dk_at dksJ21_resize_8 0 rfl rfl)
theorem dJ21_resize_189 : decode cJ21_resize 189 = .ok (.iconst 1, 1) := dk_4 (dk_at dksJ21_resize_8 2 rfl rfl)
theorem dJ21_resize_190 : decode cJ21_resize 190 = .ok (.isub, 1) := dk_100 (dk_at dksJ21_resize_8 3 rfl rfl)
theorem dJ21_resize_191 : decode cJ21_resize 191 = .ok (.iand, 1) := dk_126 (dk_at dksJ21_resize_8 4 rfl rfl)
theorem dJ21_resize_192 : decode cJ21_resize 192 = .ok (.aload 8, 2) := dk_25 8 (dk_at dksJ21_resize_8 5 rfl rfl)
theorem dJ21_resize_194 : decode cJ21_resize 194 = .ok (.aastore, 1) := dk_83 (dk_at dksJ21_resize_8 7 rfl rfl)
theorem dJ21_resize_195 : decode cJ21_resize 195 = .ok (.goto 152, 3) := dk_167 0 152 (dk_at dksJ21_resize_8 8 rfl rfl)
theorem dJ21_resize_198 : decode cJ21_resize 198 = .ok (.aload 8, 2) := dk_25 8 (dk_at dksJ21_resize_8 11 rfl rfl)
theorem dJ21_resize_200 : decode cJ21_resize 200 = .ok (.instanceof 180, 3) := dk_193 0 180 (dk_at dksJ21_resize_8 13 rfl rfl)
theorem dJ21_resize_203 : decode cJ21_resize 203 = .ok (.ifCond .eq 20, 3) := dk_153 0 20 (dk_at dksJ21_resize_8 16 rfl rfl)
theorem dJ21_resize_206 : decode cJ21_resize 206 = .ok (.aload 8, 2) := dk_25 8 (dk_at dksJ21_resize_8 19 rfl rfl)
theorem dJ21_resize_208 : decode cJ21_resize 208 = .ok (.checkcast 180, 3) := dk_192 0 180 (dk_at dksJ21_resize_8 21 rfl rfl)
theorem dJ21_resize_211 : decode cJ21_resize 211 = .ok (.aload_n 0, 1) := dk_42 (dk_at dksJ21_resize_9 0 rfl rfl)
theorem dJ21_resize_212 : decode cJ21_resize 212 = .ok (.aload 6, 2) := dk_25 6 (dk_at dksJ21_resize_9 1 rfl rfl)
theorem dJ21_resize_214 : decode cJ21_resize 214 = .ok (.iload 7, 2) := dk_21 7 (dk_at dksJ21_resize_9 3 rfl rfl)
theorem dJ21_resize_216 : decode cJ21_resize 216 = .ok (.iload_n 2, 1) := dk_28 (dk_at dksJ21_resize_9 5 rfl rfl)
theorem dJ21_resize_217 : decode cJ21_resize 217 = .ok (.invokevirtual 211, 3) := dk_182 0 211 (dk_at dksJ21_resize_9 6 rfl rfl)
theorem dJ21_resize_220 : decode cJ21_resize 220 = .ok (.goto 127, 3) := dk_167 0 127 (dk_at dksJ21_resize_9 9 rfl rfl)
theorem dJ21_resize_223 : decode cJ21_resize 223 = .ok (.aconst_null, 1) := dk_1 (dk_at dksJ21_resize_9 12 rfl rfl)
theorem dJ21_resize_224 : decode cJ21_resize 224 = .ok (.astore 9, 2) := dk_58 9 (dk_at dksJ21_resize_9 13 rfl rfl)
theorem dJ21_resize_226 : decode cJ21_resize 226 = .ok (.aconst_null, 1) := dk_1 (dk_at dksJ21_resize_9 15 rfl rfl)
theorem dJ21_resize_227 : decode cJ21_resize 227 = .ok (.astore 10, 2) := dk_58 10 (dk_at dksJ21_resize_9 16 rfl rfl)
theorem dJ21_resize_229 : decode cJ21_resize 229 = .ok (.aconst_null, 1) := dk_1 (dk_at dksJ21_resize_9 18 rfl rfl)
theorem dJ21_resize_230 : decode cJ21_resize 230 = .ok (.astore 11, 2) := dk_58 11 (dk_at dksJ21_resize_9 19 rfl rfl)
theorem dJ21_resize_232 : decode cJ21_resize 232 = .ok (.aconst_null, 1) := dk_1 (dk_at dksJ21_resize_9 21 rfl rfl)
theorem dJ21_resize_233 : decode cJ21_resize 233 = .ok (.astore 12, 2) := dk_58 12 (dk_at dksJ21_resize_9 22 rfl rfl)
theorem dJ21_resize_235 : decode cJ21_resize 235 = .ok (.aload 8, 2) := dk_25 8 (dk_at dksJ21_resize_10 0 rfl rfl)
theorem dJ21_resize_237 : decode cJ21_resize 237 = .ok (.getfield 177, 3) := dk_180 0 177 (dk_at dksJ21_resize_10 2 rfl rfl)
theorem dJ21_resize_240 : decode cJ21_resize 240 = .ok (.astore 13, 2) := dk_58 13 (dk_at dksJ21_resize_10 5 rfl rfl)
theorem dJ21_resize_242 : decode cJ21_resize 242 = .ok (.aload 8, 2) := dk_25 8 (dk_at dksJ21_resize_10 7 rfl rfl)
theorem dJ21_resize_244 : decode cJ21_resize 244 = .ok (.getfield 168, 3) := dk_180 0 168 (dk_at dksJ21_resize_10 9 rfl rfl)
theorem dJ21_resize_247 : decode cJ21_resize 247 = .ok (.iload_n 2, 1) := dk_28 (dk_at dksJ21_resize_10 12 rfl rfl)
theorem dJ21_resize_248 : decode cJ21_resize 248 = .ok (.iand, 1) := dk_126 (dk_at dksJ21_resize_10 13 rfl rfl)
theorem dJ21_resize_249 : decode cJ21_resize 249 = .ok (.ifCond .ne 29, 3) := dk_154 0 29 (dk_at dksJ21_resize_10 14 rfl rfl)
theorem dJ21_resize_252 : decode cJ21_resize 252 = .ok (.aload 10, 2) := dk_25 10 (dk_at dksJ21_resize_10 17 rfl rfl)
theorem dJ21_resize_254 : decode cJ21_resize 254 = .ok (.ifnonnull 10, 3) := dk_199 0 10 (dk_at dksJ21_resize_10 19 rfl rfl)
theorem dJ21_resize_257 : decode cJ21_resize 257 = .ok (.aload 8, 2) := dk_25 8 (dk_at dksJ21_resize_10 22 rfl rfl)
theorem dJ21_resize_259 : decode cJ21_resize 259 = .ok (.astore 9, 2) := dk_58 9 (dk_at dksJ21_resize_11 0 rfl rfl)
theorem dJ21_resize_261 : decode cJ21_resize 261 = .ok (.goto 10, 3) := dk_167 0 10 (dk_at dksJ21_resize_11 2 rfl rfl)
theorem dJ21_resize_264 : decode cJ21_resize 264 = .ok (.aload 10, 2) := dk_25 10 (dk_at dksJ21_resize_11 5 rfl rfl)
theorem dJ21_resize_266 : decode cJ21_resize 266 = .ok (.aload 8, 2) := dk_25 8 (dk_at dksJ21_resize_11 7 rfl rfl)
theorem dJ21_resize_268 : decode cJ21_resize 268 = .ok (.putfield 177, 3) := dk_181 0 177 (dk_at dksJ21_resize_11 9 rfl rfl)
theorem dJ21_resize_271 : decode cJ21_resize 271 = .ok (.aload 8, 2) := dk_25 8 (dk_at dksJ21_resize_11 12 rfl rfl)
theorem dJ21_resize_273 : decode cJ21_resize 273 = .ok (.astore 10, 2) := dk_58 10 (dk_at dksJ21_resize_11 14 rfl rfl)
theorem dJ21_resize_275 : decode cJ21_resize 275 = .ok (.goto 26, 3) := dk_167 0 26 (dk_at dksJ21_resize_11 16 rfl rfl)
theorem dJ21_resize_278 : decode cJ21_resize 278 = .ok (.aload 12, 2) := dk_25 12 (dk_at dksJ21_resize_11 19 rfl rfl)
theorem dJ21_resize_280 : decode cJ21_resize 280 = .ok (.ifnonnull 10, 3) := dk_199 0 10 (dk_at dksJ21_resize_11 21 rfl rfl)
theorem dJ21_resize_283 : decode cJ21_resize 283 = .ok (.aload 8, 2) := dk_25 8 (dk_at dksJ21_resize_12 0 rfl rfl)
theorem dJ21_resize_285 : decode cJ21_resize 285 = .ok (.astore 11, 2) := dk_58 11 (dk_at dksJ21_resize_12 2 rfl rfl)
theorem dJ21_resize_287 : decode cJ21_resize 287 = .ok (.goto 10, 3) := dk_167 0 10 (dk_at dksJ21_resize_12 4 rfl rfl)
theorem dJ21_resize_290 : decode cJ21_resize 290 = .ok (.aload 12, 2) := dk_25 12 (dk_at dksJ21_resize_12 7 rfl rfl)
theorem dJ21_resize_292 : decode cJ21_resize 292 = .ok (.aload 8, 2) := dk_25 8 (dk_at dksJ21_resize_12 9 rfl rfl)
theorem dJ21_resize_294 : decode cJ21_resize 294 = .ok (.putfield 177, 3) := dk_181 0 177 (dk_at dksJ21_resize_12 11 rfl rfl)
theorem dJ21_resize_297 : decode cJ21_resize 297 = .ok (.aload 8, 2) := dk_25 8 (dk_at dksJ21_resize_12 14 rfl rfl)
theorem dJ21_resize_299 : decode cJ21_resize 299 = .ok (.astore 12, 2) := dk_58 12 (dk_at dksJ21_resize_12 16 rfl rfl)
theorem dJ21_resize_301 : decode cJ21_resize 301 = .ok (.aload 13, 2) := dk_25 13 (dk_at dksJ21_resize_12 18 rfl rfl)
theorem dJ21_resize_303 : decode cJ21_resize 303 = .ok (.dup, 1) := dk_89 (dk_at dksJ21_resize_12 20 rfl rfl)
theorem dJ21_resize_304 : decode cJ21_resize 304 = .ok (.astore 8, 2) := dk_58 8 (dk_at dksJ21_resize_12 21 rfl rfl)
theorem dJ21_resize_306 : decode cJ21_resize 306 = .ok (.ifnonnull (-71), 3) := dk_199 255 185 (dk_at dksJ21_resize_13 0 rfl rfl)
theorem dJ21_resize_309 : decode cJ21_resize 309 = .ok (.aload 10, 2) := dk_25 10 (dk_at dksJ21_resize_13 3 rfl rfl)
theorem dJ21_resize_311 : decode cJ21_resize 311 = .ok (.ifnull 16, 3) := dk_198 0 16 (dk_at dksJ21_resize_13 5 rfl rfl)
theorem dJ21_resize_314 : decode cJ21_resize 314 = .ok (.aload 10, 2) := dk_25 10 (dk_at dksJ21_resize_13 8 rfl rfl)
theorem dJ21_resize_316 : decode cJ21_resize 316 = .ok (.aconst_null, 1) := dk_1 (dk_at dksJ21_resize_13 10 rfl rfl)
theorem dJ21_resize_317 : decode cJ21_resize 317 = .ok (.putfield 177, 3) := dk_181 0 177 (dk_at dksJ21_resize_13 11 rfl rfl)
theorem dJ21_resize_320 : decode cJ21_resize 320 = .ok (.aload 6, 2) := dk_25 6 (dk_at dksJ21_resize_13 14 rfl rfl)
theorem dJ21_resize_322 : decode cJ21_resize 322 = .ok (.iload 7, 2) := dk_21 7 (dk_at dksJ21_resize_13 16 rfl rfl)
theorem dJ21_resize_324 : decode cJ21_resize 324 = .ok (.aload 9, 2) := dk_25 9 (dk_at dksJ21_resize_13 18 rfl rfl)
theorem dJ21_resize_326 : decode cJ21_resize 326 = .ok (.aastore, 1) := dk_83 (dk_at dksJ21_resize_13 20 rfl rfl)
theorem dJ21_resize_327 : decode cJ21_resize 327 = .ok (.aload 12, 2) := dk_25 12 (dk_at dksJ21_resize_13 21 rfl rfl)
theorem dJ21_resize_329 : decode cJ21_resize 329 = .ok (.ifnull 18, 3) := dk_198 0 18 (dk_at dksJ21_resize_14 0 rfl rfl)
theorem dJ21_resize_332 : decode cJ21_resize 332 = .ok (.aload 12, 2) := dk_25 12 (dk_at dksJ21_resize_14 3 rfl rfl)
theorem dJ21_resize_334 : decode cJ21_resize 334 = .ok (.aconst_null, 1) := dk_1 (dk_at dksJ21_resize_14 5 rfl rfl)
theorem dJ21_resize_335 : decode cJ21_resize 335 = .ok (.putfield 177, 3) := dk_181 0 177 (dk_at dksJ21_resize_14 6 rfl rfl)
theorem dJ21_resize_338 : decode cJ21_resize 338 = .ok (.aload 6, 2) := dk_25 6 (dk_at dksJ21_resize_14 9 rfl rfl)
theorem dJ21_resize_340 : decode cJ21_resize 340 = .ok (.iload 7, 2) := dk_21 7 (dk_at dksJ21_resize_14 11 rfl rfl)
theorem dJ21_resize_342 : decode cJ21_resize 342 = .ok (.iload_n 2, 1) := dk_28 (dk_at dksJ21_resize_14 13 rfl rfl)
theorem dJ21_resize_343 : decode cJ21_resize 343 = .ok (.iadd, 1) := dk_96 (dk_at dksJ21_resize_14 14 rfl rfl)
theorem dJ21_resize_344 : decode cJ21_resize 344 = .ok (.aload 11, 2) := dk_25 11 (dk_at dksJ21_resize_14 15 rfl rfl)
theorem dJ21_resize_346 : decode cJ21_resize 346 = .ok (.aastore, 1) := dk_83 (dk_at dksJ21_resize_14 17 rfl rfl)
theorem dJ21_resize_347 : decode cJ21_resize 347 = .ok (.iinc 7 1, 3) := dk_132 7 1 (dk_at dksJ21_resize_14 18 rfl rfl)
theorem dJ21_resize_350 : decode cJ21_resize 350 = .ok (.goto (-199), 3) := dk_167 255 57 (dk_at dksJ21_resize_14 21 rfl rfl)
theorem dJ21_resize_353 : decode cJ21_resize 353 = .ok (.aload 6, 2) := dk_25 6 (dk_at dksJ21_resize_15 0 rfl rfl)
theorem dJ21_resize_355 : decode cJ21_resize 355 = .ok (.areturn, 1) := dk_176 (dk_at dksJ21_resize_15 2 rfl rfl)
abbrev cJ21_comparableClassFor : ByteArray := prog_47_method_2_code
def yJ21_comparableClassFor : MethodName := ⟨RJ21, "comparableClassFor", "(Ljava/lang/Object;)Ljava/lang/Class;"⟩
def dkwJ21_comparableClassFor_4 : List UInt8 := [4, 160, 0, 12, 45, 3, 50, 43, 166, 0, 5, 43, 176, 132, 7, 1, 167, 255, 186, 1, 176]
abbrev dktJ21_comparableClassFor_4 : List UInt8 := dkwJ21_comparableClassFor_4 ++ []
def dkwJ21_comparableClassFor_3 : List UInt8 := [185, 0, 23, 1, 0, 18, 7, 166, 0, 30, 25, 4, 185, 0, 27, 1, 0, 89, 78, 198, 0, 18, 45, 190]
abbrev dktJ21_comparableClassFor_3 : List UInt8 := dkwJ21_comparableClassFor_3 ++ dktJ21_comparableClassFor_4
def dkwJ21_comparableClassFor_2 : List UInt8 := [25, 5, 21, 7, 50, 58, 8, 25, 8, 193, 0, 21, 153, 0, 48, 25, 8, 192, 0, 21, 89, 58, 4]
abbrev dktJ21_comparableClassFor_2 : List UInt8 := dkwJ21_comparableClassFor_2 ++ dktJ21_comparableClassFor_3
def dkwJ21_comparableClassFor_1 : List UInt8 := [89, 77, 198, 0, 87, 44, 58, 5, 25, 5, 190, 54, 6, 3, 54, 7, 21, 7, 21, 6, 162, 0, 69]
abbrev dktJ21_comparableClassFor_1 : List UInt8 := dkwJ21_comparableClassFor_1 ++ dktJ21_comparableClassFor_2
def dkwJ21_comparableClassFor_0 : List UInt8 := [42, 193, 0, 7, 153, 0, 109, 42, 182, 0, 9, 89, 76, 18, 13, 166, 0, 5, 43, 176, 43, 182, 0, 15]
abbrev dktJ21_comparableClassFor_0 : List UInt8 := dkwJ21_comparableClassFor_0 ++ dktJ21_comparableClassFor_1
theorem dksJ21_comparableClassFor_0 : cJ21_comparableClassFor.data.toList.drop 0 = dktJ21_comparableClassFor_0 := by decide +kernel
theorem dksJ21_comparableClassFor_1 : cJ21_comparableClassFor.data.toList.drop 24 = dktJ21_comparableClassFor_1 := dk_seg dksJ21_comparableClassFor_0 24 rfl rfl
theorem dksJ21_comparableClassFor_2 : cJ21_comparableClassFor.data.toList.drop 47 = dktJ21_comparableClassFor_2 := dk_seg dksJ21_comparableClassFor_1 23 rfl rfl
theorem dksJ21_comparableClassFor_3 : cJ21_comparableClassFor.data.toList.drop 70 = dktJ21_comparableClassFor_3 := dk_seg dksJ21_comparableClassFor_2 23 rfl rfl
theorem dksJ21_comparableClassFor_4 : cJ21_comparableClassFor.data.toList.drop 94 = dktJ21_comparableClassFor_4 := dk_seg dksJ21_comparableClassFor_3 24 rfl rfl
theorem dJ21_comparableClassFor_0 : decode cJ21_comparableClassFor 0 = .ok (.aload_n 0, 1) := dk_42 (dk_at dksJ21_comparableClassFor_0 0 rfl rfl)
theorem dJ21_comparableClassFor_1 : decode cJ21_comparableClassFor 1 = .ok (.instanceof 7, 3) := dk_193 0 7 (dk_at dksJ21_comparableClassFor_0 1 rfl rfl)
theorem dJ21_comparableClassFor_4 : decode cJ21_comparableClassFor 4 = .ok (.ifCond .eq 109, 3) := dk_153 0 109 (dk_at dksJ21_comparableClassFor_0 4 rfl rfl)
theorem dJ21_comparableClassFor_7 : decode cJ21_comparableClassFor 7 = .ok (.aload_n 0, 1) := dk_42 (dk_at dksJ21_comparableClassFor_0 7 rfl rfl)
theorem dJ21_comparableClassFor_8 : decode cJ21_comparableClassFor 8 = .ok (.invokevirtual 9, 3) := dk_182 0 9 (dk_at dksJ21_comparableClassFor_0 8 rfl rfl)
theorem dJ21_comparableClassFor_11 : decode cJ21_comparableClassFor 11 = .ok (.dup, 1) := dk_89 (dk_at dksJ21_comparableClassFor_0 11 rfl rfl)
theorem dJ21_comparableClassFor_12 : decode cJ21_comparableClassFor 12 = .ok (.astore_n 1, 1) := dk_76 (dk_at dksJ21_comparableClassFor_0 12 rfl rfl)
theorem dJ21_comparableClassFor_13 : decode cJ21_comparableClassFor 13 = .ok (.ldc 13, 2) := dk_18 13 (dk_at dksJ21_comparableClassFor_0 13 rfl rfl)
theorem dJ21_comparableClassFor_15 : decode cJ21_comparableClassFor 15 = .ok (.if_acmp .ne 5, 3) := dk_166 0 5 (dk_at dksJ21_comparableClassFor_0 15 rfl rfl)
theorem dJ21_comparableClassFor_18 : decode cJ21_comparableClassFor 18 = .ok (.aload_n 1, 1) := dk_43 (dk_at dksJ21_comparableClassFor_0 18 rfl rfl)
theorem dJ21_comparableClassFor_19 : decode cJ21_comparableClassFor 19 = .ok (.areturn, 1) := dk_176 (dk_at dksJ21_comparableClassFor_0 19 rfl rfl)
theorem dJ21_comparableClassFor_20 : decode cJ21_comparableClassFor 20 = .ok (.aload_n 1, 1) := dk_43 (dk_at dksJ21_comparableClassFor_0 20 rfl rfl)
theorem dJ21_comparableClassFor_21 : decode cJ21_comparableClassFor 21 = .ok (.invokevirtual 15, 3) := dk_182 0 15 (dk_at dksJ21_comparableClassFor_0 21 rfl rfl)
theorem dJ21_comparableClassFor_24 : decode cJ21_comparableClassFor 24 = .ok (.dup, 1) := dk_89 (dk_at dksJ21_comparableClassFor_1 0 rfl rfl)
theorem dJ21_comparableClassFor_25 : decode cJ21_comparableClassFor 25 = .ok (.astore_n 2, 1) := dk_77 (dk_at dksJ21_comparableClassFor_1 1 rfl rfl)
theorem dJ21_comparableClassFor_26 : decode cJ21_comparableClassFor 26 = .ok (.ifnull 87, 3) := dk_198 0 87 (dk_at dksJ21_comparableClassFor_1 2 rfl rfl)
theorem dJ21_comparableClassFor_29 : decode cJ21_comparableClassFor 29 = .ok (.aload_n 2, 1) := dk_44 (dk_at dksJ21_comparableClassFor_1 5 rfl rfl)
theorem dJ21_comparableClassFor_30 : decode cJ21_comparableClassFor 30 = .ok (.astore 5, 2) := dk_58 5 (dk_at dksJ21_comparableClassFor_1 6 rfl rfl)
theorem dJ21_comparableClassFor_32 : decode cJ21_comparableClassFor 32 = .ok (.aload 5, 2) := dk_25 5 (dk_at dksJ21_comparableClassFor_1 8 rfl rfl)
theorem dJ21_comparableClassFor_34 : decode cJ21_comparableClassFor 34 = .ok (.arraylength, 1) := dk_190 (dk_at dksJ21_comparableClassFor_1 10 rfl rfl)
theorem dJ21_comparableClassFor_35 : decode cJ21_comparableClassFor 35 = .ok (.istore 6, 2) := dk_54 6 (dk_at dksJ21_comparableClassFor_1 11 rfl rfl)
theorem dJ21_comparableClassFor_37 : decode cJ21_comparableClassFor 37 = .ok (.iconst 0, 1) := dk_3 (dk_at dksJ21_comparableClassFor_1 13 rfl rfl)
theorem dJ21_comparableClassFor_38 : decode cJ21_comparableClassFor 38 = .ok (.istore 7, 2) := dk_54 7 (dk_at dksJ21_comparableClassFor_1 14 rfl rfl)
theorem dJ21_comparableClassFor_40 : decode cJ21_comparableClassFor 40 = .ok (.iload 7, 2) := dk_21 7 (dk_at dksJ21_comparableClassFor_1 16 rfl rfl)
theorem dJ21_comparableClassFor_42 : decode cJ21_comparableClassFor 42 = .ok (.iload 6, 2) := dk_21 6 (dk_at dksJ21_comparableClassFor_1 18 rfl rfl)
theorem dJ21_comparableClassFor_44 : decode cJ21_comparableClassFor 44 = .ok (.if_icmp .ge 69, 3) := dk_162 0 69 (dk_at dksJ21_comparableClassFor_1 20 rfl rfl)
theorem dJ21_comparableClassFor_47 : decode cJ21_comparableClassFor 47 = .ok (.aload 5, 2) := dk_25 5 (dk_at dksJ21_comparableClassFor_2 0 rfl rfl)
theorem dJ21_comparableClassFor_49 : decode cJ21_comparableClassFor 49 = .ok (.iload 7, 2) := dk_21 7 (dk_at dksJ21_comparableClassFor_2 2 rfl rfl)
theorem dJ21_comparableClassFor_51 : decode cJ21_comparableClassFor 51 = .ok (.aaload, 1) := dk_50 (dk_at dksJ21_comparableClassFor_2 4 rfl rfl)
theorem dJ21_comparableClassFor_52 : decode cJ21_comparableClassFor 52 = .ok (.astore 8, 2) := dk_58 8 (dk_at dksJ21_comparableClassFor_2 5 rfl rfl)
theorem dJ21_comparableClassFor_54 : decode cJ21_comparableClassFor 54 = .ok (.aload 8, 2) := dk_25 8 (dk_at dksJ21_comparableClassFor_2 7 rfl rfl)
theorem dJ21_comparableClassFor_56 : decode cJ21_comparableClassFor 56 = .ok (.instanceof 21, 3) := dk_193 0 21 (dk_at dksJ21_comparableClassFor_2 9 rfl rfl)
theorem dJ21_comparableClassFor_59 : decode cJ21_comparableClassFor 59 = .ok (.ifCond .eq 48, 3) := dk_153 0 48 (dk_at dksJ21_comparableClassFor_2 12 rfl rfl)
theorem dJ21_comparableClassFor_62 : decode cJ21_comparableClassFor 62 = .ok (.aload 8, 2) := dk_25 8 (dk_at dksJ21_comparableClassFor_2 15 rfl rfl)
theorem dJ21_comparableClassFor_64 : decode cJ21_comparableClassFor 64 = .ok (.checkcast 21, 3) := dk_192 0 21 (dk_at dksJ21_comparableClassFor_2 17 rfl rfl)
theorem dJ21_comparableClassFor_67 : decode cJ21_comparableClassFor 67 = .ok (.dup, 1) := dk_89 (dk_at dksJ21_comparableClassFor_2 20 rfl rfl)
theorem dJ21_comparableClassFor_68 : decode cJ21_comparableClassFor 68 = .ok (.astore 4, 2) := dk_58 4 (dk_at dksJ21_comparableClassFor_2 21 rfl rfl)
theorem dJ21_comparableClassFor_70 : decode cJ21_comparableClassFor 70 = .ok (.invokeinterface 23 1, 5) := by decide +kernel
theorem dJ21_comparableClassFor_75 : decode cJ21_comparableClassFor 75 = .ok (.ldc 7, 2) := dk_18 7 (dk_at dksJ21_comparableClassFor_3 5 rfl rfl)
theorem dJ21_comparableClassFor_77 : decode cJ21_comparableClassFor 77 = .ok (.if_acmp .ne 30, 3) := dk_166 0 30 (dk_at dksJ21_comparableClassFor_3 7 rfl rfl)
theorem dJ21_comparableClassFor_80 : decode cJ21_comparableClassFor 80 = .ok (.aload 4, 2) := dk_25 4 (dk_at dksJ21_comparableClassFor_3 10 rfl rfl)
theorem dJ21_comparableClassFor_82 : decode cJ21_comparableClassFor 82 = .ok (.invokeinterface 27 1, 5) := by decide +kernel
theorem dJ21_comparableClassFor_87 : decode cJ21_comparableClassFor 87 = .ok (.dup, 1) := dk_89 (dk_at dksJ21_comparableClassFor_3 17 rfl rfl)
theorem dJ21_comparableClassFor_88 : decode cJ21_comparableClassFor 88 = .ok (.astore_n 3, 1) := dk_78 (dk_at dksJ21_comparableClassFor_3 18 rfl rfl)
theorem dJ21_comparableClassFor_89 : decode cJ21_comparableClassFor 89 = .ok (.ifnull 18, 3) := dk_198 0 18 (dk_at dksJ21_comparableClassFor_3 19 rfl rfl)
theorem dJ21_comparableClassFor_92 : decode cJ21_comparableClassFor 92 = .ok (.aload_n 3, 1) := dk_45 (dk_at dksJ21_comparableClassFor_3 22 rfl rfl)
theorem dJ21_comparableClassFor_93 : decode cJ21_comparableClassFor 93 = .ok (.arraylength, 1) := dk_190 (dk_at dksJ21_comparableClassFor_3 23 rfl rfl)
theorem dJ21_comparableClassFor_94 : decode cJ21_comparableClassFor 94 = .ok (.iconst 1, 1) := dk_4 (dk_at dksJ21_comparableClassFor_4 0 rfl rfl)
theorem dJ21_comparableClassFor_95 : decode cJ21_comparableClassFor 95 = .ok (.if_icmp .ne 12, 3) := dk_160 0 12 (dk_at dksJ21_comparableClassFor_4 1 rfl rfl)
theorem dJ21_comparableClassFor_98 : decode cJ21_comparableClassFor 98 = .ok (.aload_n 3, 1) := dk_45 (dk_at dksJ21_comparableClassFor_4 4 rfl rfl)
theorem dJ21_comparableClassFor_99 : decode cJ21_comparableClassFor 99 = .ok (.iconst 0, 1) := dk_3 (dk_at dksJ21_comparableClassFor_4 5 rfl rfl)
theorem dJ21_comparableClassFor_100 : decode cJ21_comparableClassFor 100 = .ok (.aaload, 1) := dk_50 (dk_at dksJ21_comparableClassFor_4 6 rfl rfl)
theorem dJ21_comparableClassFor_101 : decode cJ21_comparableClassFor 101 = .ok (.aload_n 1, 1) := dk_43 (dk_at dksJ21_comparableClassFor_4 7 rfl rfl)
theorem dJ21_comparableClassFor_102 : decode cJ21_comparableClassFor 102 = .ok (.if_acmp .ne 5, 3) := dk_166 0 5 (dk_at dksJ21_comparableClassFor_4 8 rfl rfl)
theorem dJ21_comparableClassFor_105 : decode cJ21_comparableClassFor 105 = .ok (.aload_n 1, 1) := dk_43 (dk_at dksJ21_comparableClassFor_4 11 rfl rfl)
theorem dJ21_comparableClassFor_106 : decode cJ21_comparableClassFor 106 = .ok (.areturn, 1) := dk_176 (dk_at dksJ21_comparableClassFor_4 12 rfl rfl)
theorem dJ21_comparableClassFor_107 : decode cJ21_comparableClassFor 107 = .ok (.iinc 7 1, 3) := dk_132 7 1 (dk_at dksJ21_comparableClassFor_4 13 rfl rfl)
theorem dJ21_comparableClassFor_110 : decode cJ21_comparableClassFor 110 = .ok (.goto (-70), 3) := dk_167 255 186 (dk_at dksJ21_comparableClassFor_4 16 rfl rfl)
theorem dJ21_comparableClassFor_113 : decode cJ21_comparableClassFor 113 = .ok (.aconst_null, 1) := dk_1 (dk_at dksJ21_comparableClassFor_4 19 rfl rfl)
theorem dJ21_comparableClassFor_114 : decode cJ21_comparableClassFor 114 = .ok (.areturn, 1) := dk_176 (dk_at dksJ21_comparableClassFor_4 20 rfl rfl)
abbrev cJ21_compareComparables : ByteArray := prog_47_method_3_code
def yJ21_compareComparables : MethodName := ⟨RJ21, "compareComparables", "(Ljava/lang/Class;Ljava/lang/Object;Ljava/lang/Object;)I"⟩
def dkwJ21_compareComparables_1 : List UInt8 := [185, 0, 30, 2, 0, 172]
abbrev dktJ21_compareComparables_1 : List UInt8 := dkwJ21_compareComparables_1 ++ []
def dkwJ21_compareComparables_0 : List UInt8 := [44, 198, 0, 11, 44, 182, 0, 9, 42, 165, 0, 7, 3, 167, 0, 13, 43, 192, 0, 7, 44]
abbrev dktJ21_compareComparables_0 : List UInt8 := dkwJ21_compareComparables_0 ++ dktJ21_compareComparables_1
theorem dksJ21_compareComparables_0 : cJ21_compareComparables.data.toList.drop 0 = dktJ21_compareComparables_0 := by decide +kernel
theorem dksJ21_compareComparables_1 : cJ21_compareComparables.data.toList.drop 21 = dktJ21_compareComparables_1 := dk_seg dksJ21_compareComparables_0 21 rfl rfl
theorem dJ21_compareComparables_0 : decode cJ21_compareComparables 0 = .ok (.aload_n 2, 1) := dk_44 (dk_at dksJ21_compareComparables_0 0 rfl rfl)
theorem dJ21_compareComparables_1 : decode cJ21_compareComparables 1 = .ok (.ifnull 11, 3) := dk_198 0 11 (dk_at dksJ21_compareComparables_0 1 rfl rfl)
theorem dJ21_compareComparables_4 : decode cJ21_compareComparables 4 = .ok (.aload_n 2, 1) := dk_44 (dk_at dksJ21_compareComparables_0 4 rfl rfl)
theorem dJ21_compareComparables_5 : decode cJ21_compareComparables 5 = .ok (.invokevirtual 9, 3) := dk_182 0 9 (dk_at dksJ21_compareComparables_0 5 rfl rfl)
theorem dJ21_compareComparables_8 : decode cJ21_compareComparables 8 = .ok (.aload_n 0, 1) := dk_42 (dk_at dksJ21_compareComparables_0 8 rfl rfl)
theorem dJ21_compareComparables_9 : decode cJ21_compareComparables 9 = .ok (.if_acmp .eq 7, 3) := dk_165 0 7 (dk_at dksJ21_compareComparables_0 9 rfl rfl)
theorem dJ21_compareComparables_12 : decode cJ21_compareComparables 12 = .ok (.iconst 0, 1) := dk_3 (dk_at dksJ21_compareComparables_0 12 rfl rfl)
theorem dJ21_compareComparables_13 : decode cJ21_compareComparables 13 = .ok (.goto 13, 3) := dk_167 0 13 (dk_at dksJ21_compareComparables_0 13 rfl rfl)
theorem dJ21_compareComparables_16 : decode cJ21_compareComparables 16 = .ok (.aload_n 1, 1) := dk_43 (dk_at dksJ21_compareComparables_0 16 rfl rfl)
theorem dJ21_compareComparables_17 : decode cJ21_compareComparables 17 = .ok (.checkcast 7, 3) := dk_192 0 7 (dk_at dksJ21_compareComparables_0 17 rfl rfl)
theorem dJ21_compareComparables_20 : decode cJ21_compareComparables 20 = .ok (.aload_n 2, 1) := dk_44 (dk_at dksJ21_compareComparables_0 20 rfl rfl)
theorem dJ21_compareComparables_21 : decode cJ21_compareComparables 21 = .ok (.invokeinterface 30 2, 5) := by decide +kernel
theorem dJ21_compareComparables_26 : decode cJ21_compareComparables 26 = .ok (.ireturn, 1) := dk_172 (dk_at dksJ21_compareComparables_1 5 rfl rfl)
abbrev cJ21_treeifyBin : ByteArray := prog_47_method_18_code
def yJ21_treeifyBin : MethodName := ⟨RJ21, "treeifyBin", "([Ljava/util/HashMap$Node;I)V"⟩
def dkwJ21_treeifyBin_4 : List UInt8 := [21, 4, 25, 6, 91, 83, 198, 0, 9, 25, 6, 43, 182, 0, 224, 177]
abbrev dktJ21_treeifyBin_4 : List UInt8 := dkwJ21_treeifyBin_4 ++ []
def dkwJ21_treeifyBin_3 : List UInt8 := [25, 7, 25, 8, 181, 0, 223, 25, 8, 58, 7, 25, 5, 180, 0, 177, 89, 58, 5, 199, 255, 209, 43]
abbrev dktJ21_treeifyBin_3 : List UInt8 := dkwJ21_treeifyBin_3 ++ dktJ21_treeifyBin_4
def dkwJ21_treeifyBin_2 : List UInt8 := [182, 0, 215, 58, 8, 25, 7, 199, 0, 10, 25, 8, 58, 6, 167, 0, 17, 25, 8, 25, 7, 181, 0, 219]
abbrev dktJ21_treeifyBin_2 : List UInt8 := dkwJ21_treeifyBin_2 ++ dktJ21_treeifyBin_3
def dkwJ21_treeifyBin_1 : List UInt8 := [100, 28, 126, 89, 54, 4, 50, 89, 58, 5, 198, 0, 75, 1, 58, 6, 1, 58, 7, 42, 25, 5, 1]
abbrev dktJ21_treeifyBin_1 : List UInt8 := dkwJ21_treeifyBin_1 ++ dktJ21_treeifyBin_2
def dkwJ21_treeifyBin_0 : List UInt8 := [43, 198, 0, 12, 43, 190, 89, 62, 16, 64, 162, 0, 11, 42, 182, 0, 117, 87, 167, 0, 91, 43, 29, 4]
abbrev dktJ21_treeifyBin_0 : List UInt8 := dkwJ21_treeifyBin_0 ++ dktJ21_treeifyBin_1
theorem dksJ21_treeifyBin_0 : cJ21_treeifyBin.data.toList.drop 0 = dktJ21_treeifyBin_0 := by decide +kernel
theorem dksJ21_treeifyBin_1 : cJ21_treeifyBin.data.toList.drop 24 = dktJ21_treeifyBin_1 := dk_seg dksJ21_treeifyBin_0 24 rfl rfl
theorem dksJ21_treeifyBin_2 : cJ21_treeifyBin.data.toList.drop 47 = dktJ21_treeifyBin_2 := dk_seg dksJ21_treeifyBin_1 23 rfl rfl
theorem dksJ21_treeifyBin_3 : cJ21_treeifyBin.data.toList.drop 71 = dktJ21_treeifyBin_3 := dk_seg dksJ21_treeifyBin_2 24 rfl rfl
theorem dksJ21_treeifyBin_4 : cJ21_treeifyBin.data.toList.drop 94 = dktJ21_treeifyBin_4 := dk_seg dksJ21_treeifyBin_3 23 rfl rfl
theorem dJ21_treeifyBin_0 : decode cJ21_treeifyBin 0 = .ok (.aload_n 1, 1) := dk_43 (dk_at dksJ21_treeifyBin_0 0 rfl rfl)
theorem dJ21_treeifyBin_1 : decode cJ21_treeifyBin 1 = .ok (.ifnull 12, 3) := dk_198 0 12 (dk_at dksJ21_treeifyBin_0 1 rfl rfl)
theorem dJ21_treeifyBin_4 : decode cJ21_treeifyBin 4 = .ok (.aload_n 1, 1) := dk_43 (dk_at dksJ21_treeifyBin_0 4 rfl rfl)
theorem dJ21_treeifyBin_5 : decode cJ21_treeifyBin 5 = .ok (.arraylength, 1) := dk_190 (dk_at dksJ21_treeifyBin_0 5 rfl rfl)
theorem dJ21_treeifyBin_6 : decode cJ21_treeifyBin 6 = .ok (.dup, 1) := dk_89 (dk_at dksJ21_treeifyBin_0 6 rfl rfl)
theorem dJ21_treeifyBin_7 : decode cJ21_treeifyBin 7 = .ok (.istore_n 3, 1) := dk_62 (dk_at dksJ21_treeifyBin_0 7 rfl rfl)
theorem dJ21_treeifyBin_8 : decode cJ21_treeifyBin 8 = .ok (.bipush 64, 2) := dk_16 64 (dk_at dksJ21_treeifyBin_0 8 rfl rfl)
theorem dJ21_treeifyBin_10 : decode cJ21_treeifyBin 10 = .ok (.if_icmp .ge 11, 3) := dk_162 0 11 (dk_at dksJ21_treeifyBin_0 10 rfl rfl)
theorem dJ21_treeifyBin_13 : decode cJ21_treeifyBin 13 = .ok (.aload_n 0, 1) := dk_42 (dk_at dksJ21_treeifyBin_0 13 rfl rfl)
theorem dJ21_treeifyBin_14 : decode cJ21_treeifyBin 14 = .ok (.invokevirtual 117, 3) := dk_182 0 117 (dk_at dksJ21_treeifyBin_0 14 rfl rfl)
theorem dJ21_treeifyBin_17 : decode cJ21_treeifyBin 17 = .ok (.pop, 1) := dk_87 (dk_at dksJ21_treeifyBin_0 17 rfl rfl)
theorem dJ21_treeifyBin_18 : decode cJ21_treeifyBin 18 = .ok (.goto 91, 3) := dk_167 0 91 (dk_at dksJ21_treeifyBin_0 18 rfl rfl)
theorem dJ21_treeifyBin_21 : decode cJ21_treeifyBin 21 = .ok (.aload_n 1, 1) := dk_43 (dk_at dksJ21_treeifyBin_0 21 rfl rfl)
theorem dJ21_treeifyBin_22 : decode cJ21_treeifyBin 22 = .ok (.iload_n 3, 1) := dk_29 (dk_at dksJ21_treeifyBin_0 22 rfl rfl)
theorem dJ21_treeifyBin_23 : decode cJ21_treeifyBin 23 = .ok (.iconst 1, 1) := dk_4 (dk_at dksJ21_treeifyBin_0 23 rfl rfl)
theorem dJ21_treeifyBin_24 : decode cJ21_treeifyBin 24 = .ok (.isub, 1) := dk_100 (dk_at dksJ21_treeifyBin_1 0 rfl rfl)
theorem dJ21_treeifyBin_25 : decode cJ21_treeifyBin 25 = .ok (.iload_n 2, 1) := dk_28 (dk_at dksJ21_treeifyBin_1 1 rfl rfl)
theorem dJ21_treeifyBin_26 : decode cJ21_treeifyBin 26 = .ok (.iand, 1) := dk_126 (dk_at dksJ21_treeifyBin_1 2 rfl rfl)
theorem dJ21_treeifyBin_27 : decode cJ21_treeifyBin 27 = .ok (.dup, 1) := dk_89 (dk_at dksJ21_treeifyBin_1 3 rfl rfl)
theorem dJ21_treeifyBin_28 : decode cJ21_treeifyBin 28 = .ok (.istore 4, 2) := dk_54 4 (dk_at dksJ21_treeifyBin_1 4 rfl rfl)
theorem dJ21_treeifyBin_30 : decode cJ21_treeifyBin 30 = .ok (.aaload, 1) := dk_50 (dk_at dksJ21_treeifyBin_1 6 rfl rfl)
theorem dJ21_treeifyBin_31 : decode cJ21_treeifyBin 31 = .ok (.dup, 1) := dk_89 (dk_at dksJ21_treeifyBin_1 7 rfl rfl)
theorem dJ21_treeifyBin_32 : decode cJ21_treeifyBin 32 = .ok (.astore 5, 2) := dk_58 5 (dk_at dksJ21_treeifyBin_1 8 rfl rfl)
theorem dJ21_treeifyBin_34 : decode cJ21_treeifyBin 34 = .ok (.ifnull 75, 3) := dk_198 0 75 (dk_at dksJ21_treeifyBin_1 10 rfl rfl)
theorem dJ21_treeifyBin_37 : decode cJ21_treeifyBin 37 = .ok (.aconst_null, 1) := dk_1 (dk_at dksJ21_treeifyBin_1 13 rfl rfl)
theorem dJ21_treeifyBin_38 : decode cJ21_treeifyBin 38 = .ok (.astore 6, 2) := dk_58 6 (dk_at dksJ21_treeifyBin_1 14 rfl rfl)
theorem dJ21_treeifyBin_40 : decode cJ21_treeifyBin 40 = .ok (.aconst_null, 1) := dk_1 (dk_at dksJ21_treeifyBin_1 16 rfl rfl)
theorem dJ21_treeifyBin_41 : decode cJ21_treeifyBin 41 = .ok (.astore 7, 2) := dk_58 7 (dk_at dksJ21_treeifyBin_1 17 rfl rfl)
theorem dJ21_treeifyBin_43 : decode cJ21_treeifyBin 43 = .ok (.aload_n 0, 1) := dk_42 (dk_at dksJ21_treeifyBin_1 19 rfl rfl)
theorem dJ21_treeifyBin_44 : decode cJ21_treeifyBin 44 = .ok (.aload 5, 2) := dk_25 5 (dk_at dksJ21_treeifyBin_1 20 rfl rfl)
theorem dJ21_treeifyBin_46 : decode cJ21_treeifyBin 46 = .ok (.aconst_null, 1) := dk_1 (dk_at dksJ21_treeifyBin_1 22 rfl rfl)
theorem dJ21_treeifyBin_47 : decode cJ21_treeifyBin 47 = .ok (.invokevirtual 215, 3) := dk_182 0 215 (dk_at dksJ21_treeifyBin_2 0 rfl rfl)
theorem dJ21_treeifyBin_50 : decode cJ21_treeifyBin 50 = .ok (.astore 8, 2) := dk_58 8 (dk_at dksJ21_treeifyBin_2 3 rfl rfl)
theorem dJ21_treeifyBin_52 : decode cJ21_treeifyBin 52 = .ok (.aload 7, 2) := dk_25 7 (dk_at dksJ21_treeifyBin_2 5 rfl rfl)
theorem dJ21_treeifyBin_54 : decode cJ21_treeifyBin 54 = .ok (.ifnonnull 10, 3) := dk_199 0 10 (dk_at dksJ21_treeifyBin_2 7 rfl rfl)
theorem dJ21_treeifyBin_57 : decode cJ21_treeifyBin 57 = .ok (.aload 8, 2) := dk_25 8 (dk_at dksJ21_treeifyBin_2 10 rfl rfl)
theorem dJ21_treeifyBin_59 : decode cJ21_treeifyBin 59 = .ok (.astore 6, 2) := dk_58 6 (dk_at dksJ21_treeifyBin_2 12 rfl rfl)
theorem dJ21_treeifyBin_61 : decode cJ21_treeifyBin 61 = .ok (.goto 17, 3) := dk_167 0 17 (dk_at dksJ21_treeifyBin_2 14 rfl rfl)
theorem dJ21_treeifyBin_64 : decode cJ21_treeifyBin 64 = .ok (.aload 8, 2) := dk_25 8 (dk_at dksJ21_treeifyBin_2 17 rfl rfl)
theorem dJ21_treeifyBin_66 : decode cJ21_treeifyBin 66 = .ok (.aload 7, 2) := dk_25 7 (dk_at dksJ21_treeifyBin_2 19 rfl rfl)
theorem dJ21_treeifyBin_68 : decode cJ21_treeifyBin 68 = .ok (.putfield 219, 3) := dk_181 0 219 (dk_at dksJ21_treeifyBin_2 21 rfl rfl)
theorem dJ21_treeifyBin_71 : decode cJ21_treeifyBin 71 = .ok (.aload 7, 2) := dk_25 7 (dk_at dksJ21_treeifyBin_3 0 rfl rfl)
theorem dJ21_treeifyBin_73 : decode cJ21_treeifyBin 73 = .ok (.aload 8, 2) := dk_25 8 (dk_at dksJ21_treeifyBin_3 2 rfl rfl)
theorem dJ21_treeifyBin_75 : decode cJ21_treeifyBin 75 = .ok (.putfield 223, 3) := dk_181 0 223 (dk_at dksJ21_treeifyBin_3 4 rfl rfl)
theorem dJ21_treeifyBin_78 : decode cJ21_treeifyBin 78 = .ok (.aload 8, 2) := dk_25 8 (dk_at dksJ21_treeifyBin_3 7 rfl rfl)
theorem dJ21_treeifyBin_80 : decode cJ21_treeifyBin 80 = .ok (.astore 7, 2) := dk_58 7 (dk_at dksJ21_treeifyBin_3 9 rfl rfl)
theorem dJ21_treeifyBin_82 : decode cJ21_treeifyBin 82 = .ok (.aload 5, 2) := dk_25 5 (dk_at dksJ21_treeifyBin_3 11 rfl rfl)
theorem dJ21_treeifyBin_84 : decode cJ21_treeifyBin 84 = .ok (.getfield 177, 3) := dk_180 0 177 (dk_at dksJ21_treeifyBin_3 13 rfl rfl)
theorem dJ21_treeifyBin_87 : decode cJ21_treeifyBin 87 = .ok (.dup, 1) := dk_89 (dk_at dksJ21_treeifyBin_3 16 rfl rfl)
theorem dJ21_treeifyBin_88 : decode cJ21_treeifyBin 88 = .ok (.astore 5, 2) := dk_58 5 (dk_at dksJ21_treeifyBin_3 17 rfl rfl)
theorem dJ21_treeifyBin_90 : decode cJ21_treeifyBin 90 = .ok (.ifnonnull (-47), 3) := dk_199 255 209 (dk_at dksJ21_treeifyBin_3 19 rfl rfl)
theorem dJ21_treeifyBin_93 : decode cJ21_treeifyBin 93 = .ok (.aload_n 1, 1) := dk_43 (dk_at dksJ21_treeifyBin_3 22 rfl rfl)
theorem dJ21_treeifyBin_94 : decode cJ21_treeifyBin 94 = .ok (.iload 4, 2) := dk_21 4 (dk_at dksJ21_treeifyBin_4 0 rfl rfl)
theorem dJ21_treeifyBin_96 : decode cJ21_treeifyBin 96 = .ok (.aload 6, 2) := dk_25 6 (dk_at dksJ21_treeifyBin_4 2 rfl rfl)
theorem dJ21_treeifyBin_98 : decode cJ21_treeifyBin 98 = .ok (.dup_x2, 1) := dk_91 (dk_at dksJ21_treeifyBin_4 4 rfl rfl)
theorem dJ21_treeifyBin_99 : decode cJ21_treeifyBin 99 = .ok (.aastore, 1) := dk_83 (dk_at dksJ21_treeifyBin_4 5 rfl rfl)
theorem dJ21_treeifyBin_100 : decode cJ21_treeifyBin 100 = .ok (.ifnull 9, 3) := dk_198 0 9 (dk_at dksJ21_treeifyBin_4 6 rfl rfl)
theorem dJ21_treeifyBin_103 : decode cJ21_treeifyBin 103 = .ok (.aload 6, 2) := dk_25 6 (dk_at dksJ21_treeifyBin_4 9 rfl rfl)
theorem dJ21_treeifyBin_105 : decode cJ21_treeifyBin 105 = .ok (.aload_n 1, 1) := dk_43 (dk_at dksJ21_treeifyBin_4 11 rfl rfl)
theorem dJ21_treeifyBin_106 : decode cJ21_treeifyBin 106 = .ok (.invokevirtual 224, 3) := dk_182 0 224 (dk_at dksJ21_treeifyBin_4 12 rfl rfl)
theorem dJ21_treeifyBin_109 : decode cJ21_treeifyBin 109 = .ok (.return_, 1) := dk_177 (dk_at dksJ21_treeifyBin_4 15 rfl rfl)
abbrev cJ21_containsKey : ByteArray := prog_47_method_14_code
def yJ21_containsKey : MethodName := ⟨RJ21, "containsKey", "(Ljava/lang/Object;)Z"⟩
def dkwJ21_containsKey_0 : List UInt8 := [42, 43, 182, 0, 158, 198, 0, 7, 4, 167, 0, 4, 3, 172]
abbrev dktJ21_containsKey_0 : List UInt8 := dkwJ21_containsKey_0 ++ []
theorem dksJ21_containsKey_0 : cJ21_containsKey.data.toList.drop 0 = dktJ21_containsKey_0 := by decide +kernel
theorem dJ21_containsKey_0 : decode cJ21_containsKey 0 = .ok (.aload_n 0, 1) := dk_42 (dk_at dksJ21_containsKey_0 0 rfl rfl)
theorem dJ21_containsKey_1 : decode cJ21_containsKey 1 = .ok (.aload_n 1, 1) := dk_43 (dk_at dksJ21_containsKey_0 1 rfl rfl)
theorem dJ21_containsKey_2 : decode cJ21_containsKey 2 = .ok (.invokevirtual 158, 3) := dk_182 0 158 (dk_at dksJ21_containsKey_0 2 rfl rfl)
theorem dJ21_containsKey_5 : decode cJ21_containsKey 5 = .ok (.ifnull 7, 3) := dk_198 0 7 (dk_at dksJ21_containsKey_0 5 rfl rfl)
theorem dJ21_containsKey_8 : decode cJ21_containsKey 8 = .ok (.iconst 1, 1) := dk_4 (dk_at dksJ21_containsKey_0 8 rfl rfl)
theorem dJ21_containsKey_9 : decode cJ21_containsKey 9 = .ok (.goto 4, 3) := dk_167 0 4 (dk_at dksJ21_containsKey_0 9 rfl rfl)
theorem dJ21_containsKey_12 : decode cJ21_containsKey 12 = .ok (.iconst 0, 1) := dk_3 (dk_at dksJ21_containsKey_0 12 rfl rfl)
theorem dJ21_containsKey_13 : decode cJ21_containsKey 13 = .ok (.ireturn, 1) := dk_172 (dk_at dksJ21_containsKey_0 13 rfl rfl)
abbrev cJ21_getNode : ByteArray := prog_47_method_13_code
def yJ21_getNode : MethodName := ⟨RJ21, "getNode", "(Ljava/lang/Object;)Ljava/util/HashMap$Node;"⟩
def dkwJ21_getNode_6 : List UInt8 := [89, 58, 4, 199, 255, 210, 1, 176]
abbrev dktJ21_getNode_6 : List UInt8 := dkwJ21_getNode_6 ++ []
def dkwJ21_getNode_5 : List UInt8 := [165, 0, 16, 43, 198, 0, 15, 43, 25, 7, 182, 0, 173, 153, 0, 6, 25, 4, 176, 25, 4, 180, 0, 177]
abbrev dktJ21_getNode_5 : List UInt8 := dkwJ21_getNode_5 ++ dktJ21_getNode_6
def dkwJ21_getNode_4 : List UInt8 := [43, 182, 0, 182, 176, 25, 4, 180, 0, 168, 21, 6, 160, 0, 31, 25, 4, 180, 0, 170, 89, 58, 7, 43]
abbrev dktJ21_getNode_4 : List UInt8 := dkwJ21_getNode_4 ++ dktJ21_getNode_5
def dkwJ21_getNode_3 : List UInt8 := [176, 45, 180, 0, 177, 89, 58, 4, 198, 0, 70, 45, 193, 0, 180, 153, 0, 14, 45, 192, 0, 180, 21, 6]
abbrev dktJ21_getNode_3 : List UInt8 := dkwJ21_getNode_3 ++ dktJ21_getNode_4
def dkwJ21_getNode_2 : List UInt8 := [180, 0, 170, 89, 58, 7, 43, 165, 0, 16, 43, 198, 0, 14, 43, 25, 7, 182, 0, 173, 153, 0, 5, 45]
abbrev dktJ21_getNode_2 : List UInt8 := dkwJ21_getNode_2 ++ dktJ21_getNode_3
def dkwJ21_getNode_1 : List UInt8 := [184, 0, 149, 89, 54, 6, 126, 50, 89, 78, 198, 0, 115, 45, 180, 0, 168, 21, 6, 160, 0, 29, 45]
abbrev dktJ21_getNode_1 : List UInt8 := dkwJ21_getNode_1 ++ dktJ21_getNode_2
def dkwJ21_getNode_0 : List UInt8 := [42, 180, 0, 105, 89, 77, 198, 0, 142, 44, 190, 89, 54, 5, 158, 0, 134, 44, 21, 5, 4, 100, 43]
abbrev dktJ21_getNode_0 : List UInt8 := dkwJ21_getNode_0 ++ dktJ21_getNode_1
theorem dksJ21_getNode_0 : cJ21_getNode.data.toList.drop 0 = dktJ21_getNode_0 := by decide +kernel
theorem dksJ21_getNode_1 : cJ21_getNode.data.toList.drop 23 = dktJ21_getNode_1 := dk_seg dksJ21_getNode_0 23 rfl rfl
theorem dksJ21_getNode_2 : cJ21_getNode.data.toList.drop 46 = dktJ21_getNode_2 := dk_seg dksJ21_getNode_1 23 rfl rfl
theorem dksJ21_getNode_3 : cJ21_getNode.data.toList.drop 70 = dktJ21_getNode_3 := dk_seg dksJ21_getNode_2 24 rfl rfl
theorem dksJ21_getNode_4 : cJ21_getNode.data.toList.drop 94 = dktJ21_getNode_4 := dk_seg dksJ21_getNode_3 24 rfl rfl
theorem dksJ21_getNode_5 : cJ21_getNode.data.toList.drop 118 = dktJ21_getNode_5 := dk_seg dksJ21_getNode_4 24 rfl rfl
theorem dksJ21_getNode_6 : cJ21_getNode.data.toList.drop 142 = dktJ21_getNode_6 := dk_seg dksJ21_getNode_5 24 rfl rfl
theorem dJ21_getNode_0 : decode cJ21_getNode 0 = .ok (.aload_n 0, 1) := dk_42 (dk_at dksJ21_getNode_0 0 rfl rfl)
theorem dJ21_getNode_1 : decode cJ21_getNode 1 = .ok (.getfield 105, 3) := dk_180 0 105 (dk_at dksJ21_getNode_0 1 rfl rfl)
theorem dJ21_getNode_4 : decode cJ21_getNode 4 = .ok (.dup, 1) := dk_89 (dk_at dksJ21_getNode_0 4 rfl rfl)
theorem dJ21_getNode_5 : decode cJ21_getNode 5 = .ok (.astore_n 2, 1) := dk_77 (dk_at dksJ21_getNode_0 5 rfl rfl)
theorem dJ21_getNode_6 : decode cJ21_getNode 6 = .ok (.ifnull 142, 3) := dk_198 0 142 (dk_at dksJ21_getNode_0 6 rfl rfl)
theorem dJ21_getNode_9 : decode cJ21_getNode 9 = .ok (.aload_n 2, 1) := dk_44 (dk_at dksJ21_getNode_0 9 rfl rfl)
theorem dJ21_getNode_10 : decode cJ21_getNode 10 = .ok (.arraylength, 1) := dk_190 (dk_at dksJ21_getNode_0 10 rfl rfl)
theorem dJ21_getNode_11 : decode cJ21_getNode 11 = .ok (.dup, 1) := dk_89 (dk_at dksJ21_getNode_0 11 rfl rfl)
theorem dJ21_getNode_12 : decode cJ21_getNode 12 = .ok (.istore 5, 2) := dk_54 5 (dk_at dksJ21_getNode_0 12 rfl rfl)
theorem dJ21_getNode_14 : decode cJ21_getNode 14 = .ok (.ifCond .le 134, 3) := dk_158 0 134 (dk_at dksJ21_getNode_0 14 rfl rfl)
theorem dJ21_getNode_17 : decode cJ21_getNode 17 = .ok (.aload_n 2, 1) := dk_44 (dk_at dksJ21_getNode_0 17 rfl rfl)
theorem dJ21_getNode_18 : decode cJ21_getNode 18 = .ok (.iload 5, 2) := dk_21 5 (dk_at dksJ21_getNode_0 18 rfl rfl)
theorem dJ21_getNode_20 : decode cJ21_getNode 20 = .ok (.iconst 1, 1) := dk_4 (dk_at dksJ21_getNode_0 20 rfl rfl)
theorem dJ21_getNode_21 : decode cJ21_getNode 21 = .ok (.isub, 1) := dk_100 (dk_at dksJ21_getNode_0 21 rfl rfl)
theorem dJ21_getNode_22 : decode cJ21_getNode 22 = .ok (.aload_n 1, 1) := dk_43 (dk_at dksJ21_getNode_0 22 rfl rfl)
theorem dJ21_getNode_23 : decode cJ21_getNode 23 = .ok (.invokestatic 149, 3) := dk_184 0 149 (dk_at dksJ21_getNode_1 0 rfl rfl)
theorem dJ21_getNode_26 : decode cJ21_getNode 26 = .ok (.dup, 1) := dk_89 (dk_at dksJ21_getNode_1 3 rfl rfl)
theorem dJ21_getNode_27 : decode cJ21_getNode 27 = .ok (.istore 6, 2) := dk_54 6 (dk_at dksJ21_getNode_1 4 rfl rfl)
theorem dJ21_getNode_29 : decode cJ21_getNode 29 = .ok (.iand, 1) := dk_126 (dk_at dksJ21_getNode_1 6 rfl rfl)
theorem dJ21_getNode_30 : decode cJ21_getNode 30 = .ok (.aaload, 1) := dk_50 (dk_at dksJ21_getNode_1 7 rfl rfl)
theorem dJ21_getNode_31 : decode cJ21_getNode 31 = .ok (.dup, 1) := dk_89 (dk_at dksJ21_getNode_1 8 rfl rfl)
theorem dJ21_getNode_32 : decode cJ21_getNode 32 = .ok (.astore_n 3, 1) := dk_78 (dk_at dksJ21_getNode_1 9 rfl rfl)
theorem dJ21_getNode_33 : decode cJ21_getNode 33 = .ok (.ifnull 115, 3) := dk_198 0 115 (dk_at dksJ21_getNode_1 10 rfl rfl)
theorem dJ21_getNode_36 : decode cJ21_getNode 36 = .ok (.aload_n 3, 1) := dk_45 (dk_at dksJ21_getNode_1 13 rfl rfl)
theorem dJ21_getNode_37 : decode cJ21_getNode 37 = .ok (.getfield 168, 3) := dk_180 0 168 (dk_at dksJ21_getNode_1 14 rfl rfl)
theorem dJ21_getNode_40 : decode cJ21_getNode 40 = .ok (.iload 6, 2) := dk_21 6 (dk_at dksJ21_getNode_1 17 rfl rfl)
theorem dJ21_getNode_42 : decode cJ21_getNode 42 = .ok (.if_icmp .ne 29, 3) := dk_160 0 29 (dk_at dksJ21_getNode_1 19 rfl rfl)
theorem dJ21_getNode_45 : decode cJ21_getNode 45 = .ok (.aload_n 3, 1) := dk_45 (dk_at dksJ21_getNode_1 22 rfl rfl)
theorem dJ21_getNode_46 : decode cJ21_getNode 46 = .ok (.getfield 170, 3) := dk_180 0 170 (dk_at dksJ21_getNode_2 0 rfl rfl)
theorem dJ21_getNode_49 : decode cJ21_getNode 49 = .ok (.dup, 1) := dk_89 (dk_at dksJ21_getNode_2 3 rfl rfl)
theorem dJ21_getNode_50 : decode cJ21_getNode 50 = .ok (.astore 7, 2) := dk_58 7 (dk_at dksJ21_getNode_2 4 rfl rfl)
theorem dJ21_getNode_52 : decode cJ21_getNode 52 = .ok (.aload_n 1, 1) := dk_43 (dk_at dksJ21_getNode_2 6 rfl rfl)
theorem dJ21_getNode_53 : decode cJ21_getNode 53 = .ok (.if_acmp .eq 16, 3) := dk_165 0 16 (dk_at dksJ21_getNode_2 7 rfl rfl)
theorem dJ21_getNode_56 : decode cJ21_getNode 56 = .ok (.aload_n 1, 1) := dk_43 (dk_at dksJ21_getNode_2 10 rfl rfl)
theorem dJ21_getNode_57 : decode cJ21_getNode 57 = .ok (.ifnull 14, 3) := dk_198 0 14 (dk_at dksJ21_getNode_2 11 rfl rfl)
theorem dJ21_getNode_60 : decode cJ21_getNode 60 = .ok (.aload_n 1, 1) := dk_43 (dk_at dksJ21_getNode_2 14 rfl rfl)
theorem dJ21_getNode_61 : decode cJ21_getNode 61 = .ok (.aload 7, 2) := dk_25 7 (dk_at dksJ21_getNode_2 15 rfl rfl)
theorem dJ21_getNode_63 : decode cJ21_getNode 63 = .ok (.invokevirtual 173, 3) := dk_182 0 173 (dk_at dksJ21_getNode_2 17 rfl rfl)
theorem dJ21_getNode_66 : decode cJ21_getNode 66 = .ok (.ifCond .eq 5, 3) := dk_153 0 5 (dk_at dksJ21_getNode_2 20 rfl rfl)
theorem dJ21_getNode_69 : decode cJ21_getNode 69 = .ok (.aload_n 3, 1) := dk_45 (dk_at dksJ21_getNode_2 23 rfl rfl)
theorem dJ21_getNode_70 : decode cJ21_getNode 70 = .ok (.areturn, 1) := dk_176 (dk_at dksJ21_getNode_3 0 rfl rfl)
theorem dJ21_getNode_71 : decode cJ21_getNode 71 = .ok (.aload_n 3, 1) := dk_45 (dk_at dksJ21_getNode_3 1 rfl rfl)
theorem dJ21_getNode_72 : decode cJ21_getNode 72 = .ok (.getfield 177, 3) := dk_180 0 177 (dk_at dksJ21_getNode_3 2 rfl rfl)
theorem dJ21_getNode_75 : decode cJ21_getNode 75 = .ok (.dup, 1) := dk_89 (dk_at dksJ21_getNode_3 5 rfl rfl)
theorem dJ21_getNode_76 : decode cJ21_getNode 76 = .ok (.astore 4, 2) := dk_58 4 (dk_at dksJ21_getNode_3 6 rfl rfl)
theorem dJ21_getNode_78 : decode cJ21_getNode 78 = .ok (.ifnull 70, 3) := dk_198 0 70 (dk_at dksJ21_getNode_3 8 rfl rfl)
theorem dJ21_getNode_81 : decode cJ21_getNode 81 = .ok (.aload_n 3, 1) := dk_45 (dk_at dksJ21_getNode_3 11 rfl rfl)
theorem dJ21_getNode_82 : decode cJ21_getNode 82 = .ok (.instanceof 180, 3) := dk_193 0 180 (dk_at dksJ21_getNode_3 12 rfl rfl)
theorem dJ21_getNode_85 : decode cJ21_getNode 85 = .ok (.ifCond .eq 14, 3) := dk_153 0 14 (dk_at dksJ21_getNode_3 15 rfl rfl)
theorem dJ21_getNode_88 : decode cJ21_getNode 88 = .ok (.aload_n 3, 1) := dk_45 (dk_at dksJ21_getNode_3 18 rfl rfl)
theorem dJ21_getNode_89 : decode cJ21_getNode 89 = .ok (.checkcast 180, 3) := dk_192 0 180 (dk_at dksJ21_getNode_3 19 rfl rfl)
theorem dJ21_getNode_92 : decode cJ21_getNode 92 = .ok (.iload 6, 2) := dk_21 6 (dk_at dksJ21_getNode_3 22 rfl rfl)
theorem dJ21_getNode_94 : decode cJ21_getNode 94 = .ok (.aload_n 1, 1) := dk_43 (dk_at dksJ21_getNode_4 0 rfl rfl)
theorem dJ21_getNode_95 : decode cJ21_getNode 95 = .ok (.invokevirtual 182, 3) := dk_182 0 182 (dk_at dksJ21_getNode_4 1 rfl rfl)
theorem dJ21_getNode_98 : decode cJ21_getNode 98 = .ok (.areturn, 1) := dk_176 (dk_at dksJ21_getNode_4 4 rfl rfl)
theorem dJ21_getNode_99 : decode cJ21_getNode 99 = .ok (.aload 4, 2) := dk_25 4 (dk_at dksJ21_getNode_4 5 rfl rfl)
theorem dJ21_getNode_101 : decode cJ21_getNode 101 = .ok (.getfield 168, 3) := dk_180 0 168 (dk_at dksJ21_getNode_4 7 rfl rfl)
theorem dJ21_getNode_104 : decode cJ21_getNode 104 = .ok (.iload 6, 2) := dk_21 6 (dk_at dksJ21_getNode_4 10 rfl rfl)
theorem dJ21_getNode_106 : decode cJ21_getNode 106 = .ok (.if_icmp .ne 31, 3) := dk_160 0 31 (dk_at dksJ21_getNode_4 12 rfl rfl)
theorem dJ21_getNode_109 : decode cJ21_getNode 109 = .ok (.aload 4, 2) := dk_25 4 (dk_at dksJ21_getNode_4 15 rfl rfl)
theorem dJ21_getNode_111 : decode cJ21_getNode 111 = .ok (.getfield 170, 3) := dk_180 0 170 (dk_at dksJ21_getNode_4 17 rfl rfl)
theorem dJ21_getNode_114 : decode cJ21_getNode 114 = .ok (.dup, 1) := dk_89 (dk_at dksJ21_getNode_4 20 rfl rfl)
theorem dJ21_getNode_115 : decode cJ21_getNode 115 = .ok (.astore 7, 2) := dk_58 7 (dk_at dksJ21_getNode_4 21 rfl rfl)
theorem dJ21_getNode_117 : decode cJ21_getNode 117 = .ok (.aload_n 1, 1) := dk_43 (dk_at dksJ21_getNode_4 23 rfl rfl)
theorem dJ21_getNode_118 : decode cJ21_getNode 118 = .ok (.if_acmp .eq 16, 3) := dk_165 0 16 (dk_at dksJ21_getNode_5 0 rfl rfl)
theorem dJ21_getNode_121 : decode cJ21_getNode 121 = .ok (.aload_n 1, 1) := dk_43 (dk_at dksJ21_getNode_5 3 rfl rfl)
theorem dJ21_getNode_122 : decode cJ21_getNode 122 = .ok (.ifnull 15, 3) := dk_198 0 15 (dk_at dksJ21_getNode_5 4 rfl rfl)
theorem dJ21_getNode_125 : decode cJ21_getNode 125 = .ok (.aload_n 1, 1) := dk_43 (dk_at dksJ21_getNode_5 7 rfl rfl)
theorem dJ21_getNode_126 : decode cJ21_getNode 126 = .ok (.aload 7, 2) := dk_25 7 (dk_at dksJ21_getNode_5 8 rfl rfl)
theorem dJ21_getNode_128 : decode cJ21_getNode 128 = .ok (.invokevirtual 173, 3) := dk_182 0 173 (dk_at dksJ21_getNode_5 10 rfl rfl)
theorem dJ21_getNode_131 : decode cJ21_getNode 131 = .ok (.ifCond .eq 6, 3) := dk_153 0 6 (dk_at dksJ21_getNode_5 13 rfl rfl)
theorem dJ21_getNode_134 : decode cJ21_getNode 134 = .ok (.aload 4, 2) := dk_25 4 (dk_at dksJ21_getNode_5 16 rfl rfl)
theorem dJ21_getNode_136 : decode cJ21_getNode 136 = .ok (.areturn, 1) := dk_176 (dk_at dksJ21_getNode_5 18 rfl rfl)
theorem dJ21_getNode_137 : decode cJ21_getNode 137 = .ok (.aload 4, 2) := dk_25 4 (dk_at dksJ21_getNode_5 19 rfl rfl)
theorem dJ21_getNode_139 : decode cJ21_getNode 139 = .ok (.getfield 177, 3) := dk_180 0 177 (dk_at dksJ21_getNode_5 21 rfl rfl)
theorem dJ21_getNode_142 : decode cJ21_getNode 142 = .ok (.dup, 1) := dk_89 (dk_at dksJ21_getNode_6 0 rfl rfl)
theorem dJ21_getNode_143 : decode cJ21_getNode 143 = .ok (.astore 4, 2) := dk_58 4 (dk_at dksJ21_getNode_6 1 rfl rfl)
theorem dJ21_getNode_145 : decode cJ21_getNode 145 = .ok (.ifnonnull (-46), 3) := dk_199 255 210 (dk_at dksJ21_getNode_6 3 rfl rfl)
theorem dJ21_getNode_148 : decode cJ21_getNode 148 = .ok (.aconst_null, 1) := dk_1 (dk_at dksJ21_getNode_6 6 rfl rfl)
theorem dJ21_getNode_149 : decode cJ21_getNode 149 = .ok (.areturn, 1) := dk_176 (dk_at dksJ21_getNode_6 7 rfl rfl)
abbrev cJ21_init_2 : ByteArray := prog_47_method_7_code
def yJ21_init_2 : MethodName := ⟨RJ21, "<init>", "()V"⟩
def dkwJ21_init_2_0 : List UInt8 := [42, 183, 0, 43, 42, 18, 92, 181, 0, 81, 177]
abbrev dktJ21_init_2_0 : List UInt8 := dkwJ21_init_2_0 ++ []
theorem dksJ21_init_2_0 : cJ21_init_2.data.toList.drop 0 = dktJ21_init_2_0 := by decide +kernel
theorem dJ21_init_2_0 : decode cJ21_init_2 0 = .ok (.aload_n 0, 1) := dk_42 (dk_at dksJ21_init_2_0 0 rfl rfl)
theorem dJ21_init_2_1 : decode cJ21_init_2 1 = .ok (.invokespecial 43, 3) := dk_183 0 43 (dk_at dksJ21_init_2_0 1 rfl rfl)
theorem dJ21_init_2_4 : decode cJ21_init_2 4 = .ok (.aload_n 0, 1) := dk_42 (dk_at dksJ21_init_2_0 4 rfl rfl)
theorem dJ21_init_2_5 : decode cJ21_init_2 5 = .ok (.ldc 92, 2) := dk_18 92 (dk_at dksJ21_init_2_0 5 rfl rfl)
theorem dJ21_init_2_7 : decode cJ21_init_2 7 = .ok (.putfield 81, 3) := dk_181 0 81 (dk_at dksJ21_init_2_0 7 rfl rfl)
theorem dJ21_init_2_10 : decode cJ21_init_2 10 = .ok (.return_, 1) := dk_177 (dk_at dksJ21_init_2_0 10 rfl rfl)
theorem q116 : (Jvm.Cond.initialized "java/util/HashMap") ∈ lw_all := lw_g (lw_at lw_m1 29 rfl) rfl
theorem q796 : (Jvm.Cond.instanceMethod ({ cls := "java/util/HashMap", name := "<init>", desc := "(IF)V" } : Jvm.MethodName)) ∈ lw_all := lw_g (lw_at lw_m3 229 rfl) rfl
theorem q797 : (Jvm.Cond.code ({ cls := "java/util/HashMap", name := "<init>", desc := "(IF)V" } : Jvm.MethodName) prog_47_method_5_code (3 : Nat) (Option.none : Option Jvm.ClassFile.FieldType)) ∈ lw_all := lw_g (lw_at lw_m3 230 rfl) rfl
theorem q798 : (Jvm.Cond.methodLink "java/util/HashMap" (43 : Nat) ({ cls := "java/util/AbstractMap", name := "<init>", desc := "()V" } : Jvm.MethodName)) ∈ lw_all := lw_g (lw_at lw_m3 231 rfl) rfl
theorem q802 : (Jvm.Cond.constant "java/util/HashMap" (42 : Nat) (1073741824 : Int32)) ∈ lw_all := lw_g (lw_at lw_m3 235 rfl) rfl
theorem q803 : (Jvm.Cond.methodLink "java/util/HashMap" (70 : Nat) ({ cls := "java/lang/Float", name := "isNaN", desc := "(F)Z" } : Jvm.MethodName)) ∈ lw_all := lw_g (lw_at lw_m3 236 rfl) rfl
theorem q806 : (Jvm.Cond.methodLink "java/util/HashMap" (85 : Nat) ({ cls := "java/util/HashMap", name := "tableSizeFor", desc := "(I)I" } : Jvm.MethodName)) ∈ lw_all := lw_g (lw_at lw_m3 239 rfl) rfl
theorem q807 : (Jvm.Cond.static ({ cls := "java/util/HashMap", name := "tableSizeFor", desc := "(I)I" } : Jvm.MethodName)) ∈ lw_all := lw_g (lw_at lw_m4 0 rfl) rfl
theorem q808 : (Jvm.Cond.code ({ cls := "java/util/HashMap", name := "tableSizeFor", desc := "(I)I" } : Jvm.MethodName) prog_47_method_4_code (2 : Nat) (Option.some Jvm.ClassFile.FieldType.int)) ∈ lw_all := lw_g (lw_at lw_m4 1 rfl) rfl
theorem q809 : (Jvm.Cond.methodLink "java/util/HashMap" (34 : Nat) ({ cls := "java/lang/Integer", name := "numberOfLeadingZeros", desc := "(I)I" } : Jvm.MethodName)) ∈ lw_all := lw_g (lw_at lw_m4 2 rfl) rfl
theorem q820 : (Jvm.Cond.fieldLink "java/util/HashMap" (105 : Nat) "java/util/HashMap" "table" "[Ljava/util/HashMap$Node;") ∈ lw_all := lw_g (lw_at lw_m4 13 rfl) rfl
theorem q825 : (Jvm.Cond.fieldLink "java/util/HashMap" (156 : Nat) "java/util/HashMap" "size" "I") ∈ lw_all := lw_g (lw_at lw_m4 18 rfl) rfl
theorem q830 : (Jvm.Cond.fieldLink "java/util/HashMap" (202 : Nat) "java/util/HashMap" "modCount" "I") ∈ lw_all := lw_g (lw_at lw_m4 23 rfl) rfl
theorem q831 : (Jvm.Cond.fieldLink "java/util/HashMap" (88 : Nat) "java/util/HashMap" "threshold" "I") ∈ lw_all := lw_g (lw_at lw_m4 24 rfl) rfl
theorem q832 : (Jvm.Cond.fieldLink "java/util/HashMap" (81 : Nat) "java/util/HashMap" "loadFactor" "F") ∈ lw_all := lw_g (lw_at lw_m4 25 rfl) rfl
theorem q833 : (Jvm.Cond.fieldLink "java/util/HashMap" (239 : Nat) "java/util/HashMap" "keySet" "Ljava/util/Set;") ∈ lw_all := lw_g (lw_at lw_m4 26 rfl) rfl
theorem q834 : (Jvm.Cond.sameField "java/util/HashMap" "java/util/AbstractMap" "keySet" "Ljava/util/Set;") ∈ lw_all := lw_g (lw_at lw_m4 27 rfl) rfl
theorem q846 : (Jvm.Cond.soleField "java/util/HashMap" "table") ∈ lw_all := lw_g (lw_at lw_m4 39 rfl) rfl
theorem q848 : (Jvm.Cond.soleField "java/util/HashMap" "entrySet") ∈ lw_all := lw_g (lw_at lw_m4 41 rfl) rfl
theorem q850 : (Jvm.Cond.soleField "java/util/HashMap" "size") ∈ lw_all := lw_g (lw_at lw_m4 43 rfl) rfl
theorem q852 : (Jvm.Cond.soleField "java/util/HashMap" "modCount") ∈ lw_all := lw_g (lw_at lw_m4 45 rfl) rfl
theorem q854 : (Jvm.Cond.soleField "java/util/HashMap" "threshold") ∈ lw_all := lw_g (lw_at lw_m4 47 rfl) rfl
theorem q856 : (Jvm.Cond.soleField "java/util/HashMap" "loadFactor") ∈ lw_all := lw_g (lw_at lw_m4 49 rfl) rfl
theorem q949 : (Jvm.Cond.instanceMethod ({ cls := "java/util/HashMap", name := "size", desc := "()I" } : Jvm.MethodName)) ∈ lw_all := lw_g (lw_at lw_m4 142 rfl) rfl
theorem q950 : (Jvm.Cond.sameMethod "java/util/HashMap" "java/util/HashMap" "size" "()I") ∈ lw_all := lw_g (lw_at lw_m4 143 rfl) rfl
theorem q952 : (Jvm.Cond.code ({ cls := "java/util/HashMap", name := "size", desc := "()I" } : Jvm.MethodName) prog_47_method_10_code (1 : Nat) (Option.some Jvm.ClassFile.FieldType.int)) ∈ lw_all := lw_g (lw_at lw_m4 145 rfl) rfl
theorem q973 : (Jvm.Cond.instanceMethod ({ cls := "java/util/HashMap", name := "put", desc := "(Ljava/lang/Object;Ljava/lang/Object;)Ljava/lang/Object;" } : Jvm.MethodName)) ∈ lw_all := lw_g (lw_at lw_m4 166 rfl) rfl
theorem q974 : (Jvm.Cond.sameMethod "java/util/HashMap" "java/util/HashMap" "put" "(Ljava/lang/Object;Ljava/lang/Object;)Ljava/lang/Object;") ∈ lw_all := lw_g (lw_at lw_m4 167 rfl) rfl
theorem q976 : (Jvm.Cond.code ({ cls := "java/util/HashMap", name := "put", desc := "(Ljava/lang/Object;Ljava/lang/Object;)Ljava/lang/Object;" } : Jvm.MethodName) prog_47_method_15_code (3 : Nat) (Option.some (Jvm.ClassFile.FieldType.object "java/lang/Object"))) ∈ lw_all := lw_g (lw_at lw_m4 169 rfl) rfl
theorem q977 : (Jvm.Cond.methodLink "java/util/HashMap" (149 : Nat) ({ cls := "java/util/HashMap", name := "hash", desc := "(Ljava/lang/Object;)I" } : Jvm.MethodName)) ∈ lw_all := lw_g (lw_at lw_m4 170 rfl) rfl
theorem q978 : (Jvm.Cond.static ({ cls := "java/util/HashMap", name := "hash", desc := "(Ljava/lang/Object;)I" } : Jvm.MethodName)) ∈ lw_all := lw_g (lw_at lw_m4 171 rfl) rfl
theorem q979 : (Jvm.Cond.code ({ cls := "java/util/HashMap", name := "hash", desc := "(Ljava/lang/Object;)I" } : Jvm.MethodName) prog_47_method_1_code (2 : Nat) (Option.some Jvm.ClassFile.FieldType.int)) ∈ lw_all := lw_g (lw_at lw_m4 172 rfl) rfl
theorem q981 : (Jvm.Cond.methodLink "java/util/HashMap" (1 : Nat) ({ cls := "java/lang/Object", name := "hashCode", desc := "()I" } : Jvm.MethodName)) ∈ lw_all := lw_g (lw_at lw_m4 174 rfl) rfl
theorem q1071 : (Jvm.Cond.methodLink "java/util/HashMap" (152 : Nat) ({ cls := "java/util/HashMap", name := "putVal", desc := "(ILjava/lang/Object;Ljava/lang/Object;ZZ)Ljava/lang/Object;" } : Jvm.MethodName)) ∈ lw_all := lw_g (lw_at lw_m5 24 rfl) rfl
theorem q1072 : (Jvm.Cond.instanceMethod ({ cls := "java/util/HashMap", name := "putVal", desc := "(ILjava/lang/Object;Ljava/lang/Object;ZZ)Ljava/lang/Object;" } : Jvm.MethodName)) ∈ lw_all := lw_g (lw_at lw_m5 25 rfl) rfl
theorem q1073 : (Jvm.Cond.sameMethod "java/util/HashMap" "java/util/HashMap" "putVal" "(ILjava/lang/Object;Ljava/lang/Object;ZZ)Ljava/lang/Object;") ∈ lw_all := lw_g (lw_at lw_m5 26 rfl) rfl
theorem q1075 : (Jvm.Cond.code ({ cls := "java/util/HashMap", name := "putVal", desc := "(ILjava/lang/Object;Ljava/lang/Object;ZZ)Ljava/lang/Object;" } : Jvm.MethodName) prog_47_method_16_code (13 : Nat) (Option.some (Jvm.ClassFile.FieldType.object "java/lang/Object"))) ∈ lw_all := lw_g (lw_at lw_m5 28 rfl) rfl
theorem q1076 : (Jvm.Cond.methodLink "java/util/HashMap" (117 : Nat) ({ cls := "java/util/HashMap", name := "resize", desc := "()[Ljava/util/HashMap$Node;" } : Jvm.MethodName)) ∈ lw_all := lw_g (lw_at lw_m5 29 rfl) rfl
theorem q1077 : (Jvm.Cond.instanceMethod ({ cls := "java/util/HashMap", name := "resize", desc := "()[Ljava/util/HashMap$Node;" } : Jvm.MethodName)) ∈ lw_all := lw_g (lw_at lw_m5 30 rfl) rfl
theorem q1078 : (Jvm.Cond.sameMethod "java/util/HashMap" "java/util/HashMap" "resize" "()[Ljava/util/HashMap$Node;") ∈ lw_all := lw_g (lw_at lw_m5 31 rfl) rfl
theorem q1080 : (Jvm.Cond.code ({ cls := "java/util/HashMap", name := "resize", desc := "()[Ljava/util/HashMap$Node;" } : Jvm.MethodName) prog_47_method_17_code (14 : Nat) (Option.some (Jvm.ClassFile.FieldType.array (Jvm.ClassFile.FieldType.object "java/util/HashMap$Node")))) ∈ lw_all := lw_g (lw_at lw_m5 33 rfl) rfl
theorem q1081 : (Jvm.Cond.constant "java/util/HashMap" (209 : Nat) (2147483647 : Int32)) ∈ lw_all := lw_g (lw_at lw_m5 34 rfl) rfl
theorem q1082 : (Jvm.Cond.constantFloat "java/util/HashMap" (210 : Nat) (1317011456 : UInt32)) ∈ lw_all := lw_g (lw_at lw_m5 35 rfl) rfl
theorem q1083 : (Jvm.Cond.classLink "java/util/HashMap" (163 : Nat) "java/util/HashMap$Node") ∈ lw_all := lw_g (lw_at lw_m5 36 rfl) rfl
theorem q1085 : (Jvm.Cond.classLink "java/util/HashMap" (180 : Nat) "java/util/HashMap$TreeNode") ∈ lw_all := lw_g (lw_at lw_m5 38 rfl) rfl
theorem q1086 : (Jvm.Cond.methodLink "java/util/HashMap" (211 : Nat) ({ cls := "java/util/HashMap$TreeNode", name := "split", desc := "(Ljava/util/HashMap;[Ljava/util/HashMap$Node;II)V" } : Jvm.MethodName)) ∈ lw_all := lw_g (lw_at lw_m5 39 rfl) rfl
theorem q1096 : (Jvm.Cond.instanceMethod ({ cls := "java/util/HashMap", name := "replacementNode", desc := "(Ljava/util/HashMap$Node;Ljava/util/HashMap$Node;)Ljava/util/HashMap$Node;" } : Jvm.MethodName)) ∈ lw_all := lw_g (lw_at lw_m5 49 rfl) rfl
theorem q1097 : (Jvm.Cond.sameMethod "java/util/HashMap" "java/util/HashMap" "replacementNode" "(Ljava/util/HashMap$Node;Ljava/util/HashMap$Node;)Ljava/util/HashMap$Node;") ∈ lw_all := lw_g (lw_at lw_m5 50 rfl) rfl
theorem q1119 : (Jvm.Cond.fieldLink "java/util/HashMap" (168 : Nat) "java/util/HashMap$Node" "hash" "I") ∈ lw_all := lw_g (lw_at lw_m5 72 rfl) rfl
theorem q1126 : (Jvm.Cond.fieldLink "java/util/HashMap" (170 : Nat) "java/util/HashMap$Node" "key" "Ljava/lang/Object;") ∈ lw_all := lw_g (lw_at lw_m5 79 rfl) rfl
theorem q1130 : (Jvm.Cond.fieldLink "java/util/HashMap" (162 : Nat) "java/util/HashMap$Node" "value" "Ljava/lang/Object;") ∈ lw_all := lw_g (lw_at lw_m5 83 rfl) rfl
theorem q1137 : (Jvm.Cond.fieldLink "java/util/HashMap" (177 : Nat) "java/util/HashMap$Node" "next" "Ljava/util/HashMap$Node;") ∈ lw_all := lw_g (lw_at lw_m5 90 rfl) rfl
theorem q1138 : (Jvm.Cond.fieldLink "java/util/HashMap" (223 : Nat) "java/util/HashMap$TreeNode" "next" "Ljava/util/HashMap$Node;") ∈ lw_all := lw_g (lw_at lw_m5 91 rfl) rfl
theorem q1156 : (Jvm.Cond.declares ({ cls := "java/util/HashMap", name := "replacementNode", desc := "(Ljava/util/HashMap$Node;Ljava/util/HashMap$Node;)Ljava/util/HashMap$Node;" } : Jvm.MethodName)) ∈ lw_tbl := lw_at lw_m5 109 rfl
theorem q1162 : (Jvm.Cond.static ({ cls := "java/util/HashMap", name := "comparableClassFor", desc := "(Ljava/lang/Object;)Ljava/lang/Class;" } : Jvm.MethodName)) ∈ lw_all := lw_g (lw_at lw_m5 115 rfl) rfl
theorem q1163 : (Jvm.Cond.code ({ cls := "java/util/HashMap", name := "comparableClassFor", desc := "(Ljava/lang/Object;)Ljava/lang/Class;" } : Jvm.MethodName) prog_47_method_2_code (9 : Nat) (Option.some (Jvm.ClassFile.FieldType.object "java/lang/Class"))) ∈ lw_all := lw_g (lw_at lw_m5 116 rfl) rfl
theorem q1164 : (Jvm.Cond.classLink "java/util/HashMap" (7 : Nat) "java/lang/Comparable") ∈ lw_all := lw_g (lw_at lw_m5 117 rfl) rfl
theorem q1165 : (Jvm.Cond.methodLink "java/util/HashMap" (9 : Nat) ({ cls := "java/lang/Object", name := "getClass", desc := "()Ljava/lang/Class;" } : Jvm.MethodName)) ∈ lw_all := lw_g (lw_at lw_m5 118 rfl) rfl
theorem q1166 : (Jvm.Cond.classLink "java/util/HashMap" (13 : Nat) "java/lang/String") ∈ lw_all := lw_g (lw_at lw_m5 119 rfl) rfl
theorem q1168 : (Jvm.Cond.static ({ cls := "java/util/HashMap", name := "compareComparables", desc := "(Ljava/lang/Class;Ljava/lang/Object;Ljava/lang/Object;)I" } : Jvm.MethodName)) ∈ lw_all := lw_g (lw_at lw_m5 121 rfl) rfl
theorem q1169 : (Jvm.Cond.code ({ cls := "java/util/HashMap", name := "compareComparables", desc := "(Ljava/lang/Class;Ljava/lang/Object;Ljava/lang/Object;)I" } : Jvm.MethodName) prog_47_method_3_code (3 : Nat) (Option.some Jvm.ClassFile.FieldType.int)) ∈ lw_all := lw_g (lw_at lw_m5 122 rfl) rfl
theorem q1170 : (Jvm.Cond.interfaceEntry "java/util/HashMap" (30 : Nat)) ∈ lw_tbl := lw_at lw_m5 123 rfl
theorem q1171 : (Jvm.Cond.methodLink "java/util/HashMap" (30 : Nat) ({ cls := "java/lang/Comparable", name := "compareTo", desc := "(Ljava/lang/Object;)I" } : Jvm.MethodName)) ∈ lw_all := lw_g (lw_at lw_m5 124 rfl) rfl
theorem q1392 : (Jvm.Cond.methodLink "java/util/HashMap" (186 : Nat) ({ cls := "java/util/HashMap", name := "newNode", desc := "(ILjava/lang/Object;Ljava/lang/Object;Ljava/util/HashMap$Node;)Ljava/util/HashMap$Node;" } : Jvm.MethodName)) ∈ lw_all := lw_g (lw_at lw_m6 105 rfl) rfl
theorem q1393 : (Jvm.Cond.instanceMethod ({ cls := "java/util/HashMap", name := "newNode", desc := "(ILjava/lang/Object;Ljava/lang/Object;Ljava/util/HashMap$Node;)Ljava/util/HashMap$Node;" } : Jvm.MethodName)) ∈ lw_all := lw_g (lw_at lw_m6 106 rfl) rfl
theorem q1394 : (Jvm.Cond.sameMethod "java/util/HashMap" "java/util/HashMap" "newNode" "(ILjava/lang/Object;Ljava/lang/Object;Ljava/util/HashMap$Node;)Ljava/util/HashMap$Node;") ∈ lw_all := lw_g (lw_at lw_m6 107 rfl) rfl
theorem q1402 : (Jvm.Cond.declares ({ cls := "java/util/HashMap", name := "newNode", desc := "(ILjava/lang/Object;Ljava/lang/Object;Ljava/util/HashMap$Node;)Ljava/util/HashMap$Node;" } : Jvm.MethodName)) ∈ lw_tbl := lw_at lw_m6 115 rfl
theorem q1404 : (Jvm.Cond.methodLink "java/util/HashMap" (173 : Nat) ({ cls := "java/lang/Object", name := "equals", desc := "(Ljava/lang/Object;)Z" } : Jvm.MethodName)) ∈ lw_all := lw_g (lw_at lw_m6 117 rfl) rfl
theorem q1437 : (Jvm.Cond.methodLink "java/util/HashMap" (190 : Nat) ({ cls := "java/util/HashMap$TreeNode", name := "putTreeVal", desc := "(Ljava/util/HashMap;[Ljava/util/HashMap$Node;ILjava/lang/Object;Ljava/lang/Object;)Ljava/util/HashMap$TreeNode;" } : Jvm.MethodName)) ∈ lw_all := lw_g (lw_at lw_m6 150 rfl) rfl
theorem q1451 : (Jvm.Cond.instanceMethod ({ cls := "java/util/HashMap", name := "newTreeNode", desc := "(ILjava/lang/Object;Ljava/lang/Object;Ljava/util/HashMap$Node;)Ljava/util/HashMap$TreeNode;" } : Jvm.MethodName)) ∈ lw_all := lw_g (lw_at lw_m6 164 rfl) rfl
theorem q1452 : (Jvm.Cond.sameMethod "java/util/HashMap" "java/util/HashMap" "newTreeNode" "(ILjava/lang/Object;Ljava/lang/Object;Ljava/util/HashMap$Node;)Ljava/util/HashMap$TreeNode;") ∈ lw_all := lw_g (lw_at lw_m6 165 rfl) rfl
theorem q1466 : (Jvm.Cond.fieldLink "java/util/HashMap" (219 : Nat) "java/util/HashMap$TreeNode" "prev" "Ljava/util/HashMap$TreeNode;") ∈ lw_all := lw_g (lw_at lw_m6 179 rfl) rfl
theorem q1485 : (Jvm.Cond.declares ({ cls := "java/util/HashMap", name := "newTreeNode", desc := "(ILjava/lang/Object;Ljava/lang/Object;Ljava/util/HashMap$Node;)Ljava/util/HashMap$TreeNode;" } : Jvm.MethodName)) ∈ lw_tbl := lw_at lw_m6 198 rfl
theorem q1486 : (Jvm.Cond.methodLink "java/util/HashMap" (194 : Nat) ({ cls := "java/util/HashMap", name := "treeifyBin", desc := "([Ljava/util/HashMap$Node;I)V" } : Jvm.MethodName)) ∈ lw_all := lw_g (lw_at lw_m6 199 rfl) rfl
theorem q1487 : (Jvm.Cond.instanceMethod ({ cls := "java/util/HashMap", name := "treeifyBin", desc := "([Ljava/util/HashMap$Node;I)V" } : Jvm.MethodName)) ∈ lw_all := lw_g (lw_at lw_m6 200 rfl) rfl
theorem q1488 : (Jvm.Cond.sameMethod "java/util/HashMap" "java/util/HashMap" "treeifyBin" "([Ljava/util/HashMap$Node;I)V") ∈ lw_all := lw_g (lw_at lw_m6 201 rfl) rfl
theorem q1490 : (Jvm.Cond.code ({ cls := "java/util/HashMap", name := "treeifyBin", desc := "([Ljava/util/HashMap$Node;I)V" } : Jvm.MethodName) prog_47_method_18_code (9 : Nat) (Option.none : Option Jvm.ClassFile.FieldType)) ∈ lw_all := lw_g (lw_at lw_m6 203 rfl) rfl
theorem q1491 : (Jvm.Cond.methodLink "java/util/HashMap" (215 : Nat) ({ cls := "java/util/HashMap", name := "replacementTreeNode", desc := "(Ljava/util/HashMap$Node;Ljava/util/HashMap$Node;)Ljava/util/HashMap$TreeNode;" } : Jvm.MethodName)) ∈ lw_all := lw_g (lw_at lw_m6 204 rfl) rfl
theorem q1492 : (Jvm.Cond.instanceMethod ({ cls := "java/util/HashMap", name := "replacementTreeNode", desc := "(Ljava/util/HashMap$Node;Ljava/util/HashMap$Node;)Ljava/util/HashMap$TreeNode;" } : Jvm.MethodName)) ∈ lw_all := lw_g (lw_at lw_m6 205 rfl) rfl
theorem q1493 : (Jvm.Cond.sameMethod "java/util/HashMap" "java/util/HashMap" "replacementTreeNode" "(Ljava/util/HashMap$Node;Ljava/util/HashMap$Node;)Ljava/util/HashMap$TreeNode;") ∈ lw_all := lw_g (lw_at lw_m6 206 rfl) rfl
theorem q1497 : (Jvm.Cond.declares ({ cls := "java/util/HashMap", name := "replacementTreeNode", desc := "(Ljava/util/HashMap$Node;Ljava/util/HashMap$Node;)Ljava/util/HashMap$TreeNode;" } : Jvm.MethodName)) ∈ lw_tbl := lw_at lw_m6 210 rfl
theorem q1498 : (Jvm.Cond.methodLink "java/util/HashMap" (224 : Nat) ({ cls := "java/util/HashMap$TreeNode", name := "treeify", desc := "([Ljava/util/HashMap$Node;)V" } : Jvm.MethodName)) ∈ lw_all := lw_g (lw_at lw_m6 211 rfl) rfl
theorem q1499 : (Jvm.Cond.methodLink "java/util/HashMap" (198 : Nat) ({ cls := "java/util/HashMap", name := "afterNodeAccess", desc := "(Ljava/util/HashMap$Node;)V" } : Jvm.MethodName)) ∈ lw_all := lw_g (lw_at lw_m6 212 rfl) rfl
theorem q1500 : (Jvm.Cond.instanceMethod ({ cls := "java/util/HashMap", name := "afterNodeAccess", desc := "(Ljava/util/HashMap$Node;)V" } : Jvm.MethodName)) ∈ lw_all := lw_g (lw_at lw_m6 213 rfl) rfl
theorem q1501 : (Jvm.Cond.sameMethod "java/util/HashMap" "java/util/HashMap" "afterNodeAccess" "(Ljava/util/HashMap$Node;)V") ∈ lw_all := lw_g (lw_at lw_m6 214 rfl) rfl
theorem q1505 : (Jvm.Cond.declares ({ cls := "java/util/HashMap", name := "afterNodeAccess", desc := "(Ljava/util/HashMap$Node;)V" } : Jvm.MethodName)) ∈ lw_tbl := lw_at lw_m6 218 rfl
theorem q1506 : (Jvm.Cond.methodLink "java/util/HashMap" (205 : Nat) ({ cls := "java/util/HashMap", name := "afterNodeInsertion", desc := "(Z)V" } : Jvm.MethodName)) ∈ lw_all := lw_g (lw_at lw_m6 219 rfl) rfl
theorem q1507 : (Jvm.Cond.instanceMethod ({ cls := "java/util/HashMap", name := "afterNodeInsertion", desc := "(Z)V" } : Jvm.MethodName)) ∈ lw_all := lw_g (lw_at lw_m6 220 rfl) rfl
theorem q1508 : (Jvm.Cond.sameMethod "java/util/HashMap" "java/util/HashMap" "afterNodeInsertion" "(Z)V") ∈ lw_all := lw_g (lw_at lw_m6 221 rfl) rfl
theorem q1516 : (Jvm.Cond.declares ({ cls := "java/util/HashMap", name := "afterNodeInsertion", desc := "(Z)V" } : Jvm.MethodName)) ∈ lw_tbl := lw_at lw_m6 229 rfl
theorem q1529 : (Jvm.Cond.instanceMethod ({ cls := "java/util/HashMap", name := "containsKey", desc := "(Ljava/lang/Object;)Z" } : Jvm.MethodName)) ∈ lw_all := lw_g (lw_at lw_m7 2 rfl) rfl
theorem q1530 : (Jvm.Cond.sameMethod "java/util/HashMap" "java/util/HashMap" "containsKey" "(Ljava/lang/Object;)Z") ∈ lw_all := lw_g (lw_at lw_m7 3 rfl) rfl
theorem q1532 : (Jvm.Cond.code ({ cls := "java/util/HashMap", name := "containsKey", desc := "(Ljava/lang/Object;)Z" } : Jvm.MethodName) prog_47_method_14_code (2 : Nat) (Option.some Jvm.ClassFile.FieldType.boolean)) ∈ lw_all := lw_g (lw_at lw_m7 5 rfl) rfl
theorem q1533 : (Jvm.Cond.methodLink "java/util/HashMap" (158 : Nat) ({ cls := "java/util/HashMap", name := "getNode", desc := "(Ljava/lang/Object;)Ljava/util/HashMap$Node;" } : Jvm.MethodName)) ∈ lw_all := lw_g (lw_at lw_m7 6 rfl) rfl
theorem q1534 : (Jvm.Cond.instanceMethod ({ cls := "java/util/HashMap", name := "getNode", desc := "(Ljava/lang/Object;)Ljava/util/HashMap$Node;" } : Jvm.MethodName)) ∈ lw_all := lw_g (lw_at lw_m7 7 rfl) rfl
theorem q1535 : (Jvm.Cond.sameMethod "java/util/HashMap" "java/util/HashMap" "getNode" "(Ljava/lang/Object;)Ljava/util/HashMap$Node;") ∈ lw_all := lw_g (lw_at lw_m7 8 rfl) rfl
theorem q1537 : (Jvm.Cond.code ({ cls := "java/util/HashMap", name := "getNode", desc := "(Ljava/lang/Object;)Ljava/util/HashMap$Node;" } : Jvm.MethodName) prog_47_method_13_code (8 : Nat) (Option.some (Jvm.ClassFile.FieldType.object "java/util/HashMap$Node"))) ∈ lw_all := lw_g (lw_at lw_m7 10 rfl) rfl
theorem q1538 : (Jvm.Cond.methodLink "java/util/HashMap" (182 : Nat) ({ cls := "java/util/HashMap$TreeNode", name := "getTreeNode", desc := "(ILjava/lang/Object;)Ljava/util/HashMap$TreeNode;" } : Jvm.MethodName)) ∈ lw_all := lw_g (lw_at lw_m7 11 rfl) rfl
theorem q1616 : (Jvm.Cond.instanceMethod ({ cls := "java/util/HashMap", name := "<init>", desc := "()V" } : Jvm.MethodName)) ∈ lw_all := lw_g (lw_at lw_m7 89 rfl) rfl
theorem q1617 : (Jvm.Cond.code ({ cls := "java/util/HashMap", name := "<init>", desc := "()V" } : Jvm.MethodName) prog_47_method_7_code (1 : Nat) (Option.none : Option Jvm.ClassFile.FieldType)) ∈ lw_all := lw_g (lw_at lw_m7 90 rfl) rfl
theorem q1618 : (Jvm.Cond.constantFloat "java/util/HashMap" (92 : Nat) (1061158912 : UInt32)) ∈ lw_all := lw_g (lw_at lw_m7 91 rfl) rfl
theorem q1621 : (Jvm.Cond.declares ({ cls := "java/util/HashMap", name := "containsKey", desc := "(Ljava/lang/Object;)Z" } : Jvm.MethodName)) ∈ lw_tbl := lw_at lw_m7 94 rfl
theorem q1644 : (Jvm.Cond.declares ({ cls := "java/util/HashMap", name := "put", desc := "(Ljava/lang/Object;Ljava/lang/Object;)Ljava/lang/Object;" } : Jvm.MethodName)) ∈ lw_tbl := lw_at lw_m7 117 rfl
theorem q1657 : (Jvm.Cond.declares ({ cls := "java/util/HashMap", name := "getNode", desc := "(Ljava/lang/Object;)Ljava/util/HashMap$Node;" } : Jvm.MethodName)) ∈ lw_tbl := lw_at lw_m7 130 rfl
theorem q1942 : (Jvm.Cond.instanceMethod ({ cls := "java/util/HashMap", name := "keySet", desc := "()Ljava/util/Set;" } : Jvm.MethodName)) ∈ lw_all := lw_g (lw_at lw_m8 175 rfl) rfl
theorem q1943 : (Jvm.Cond.sameMethod "java/util/HashMap" "java/util/HashMap" "keySet" "()Ljava/util/Set;") ∈ lw_all := lw_g (lw_at lw_m8 176 rfl) rfl
theorem q1945 : (Jvm.Cond.declares ({ cls := "java/util/HashMap", name := "keySet", desc := "()Ljava/util/Set;" } : Jvm.MethodName)) ∈ lw_tbl := lw_at lw_m8 178 rfl
/-! java/util/LinkedHashMap -/
set_option maxRecDepth 100000
def RJ22 : String := "java/util/LinkedHashMap"
def TJ22 : u_T := fun k => match k with
  | 0 => ("java/util/HashMap", "table", "[Ljava/util/HashMap$Node;", false)
  | 1 => ("java/util/HashMap", "entrySet", "Ljava/util/Set;", false)
  | 2 => ("java/util/HashMap", "size", "I", false)
  | 3 => ("java/util/HashMap", "modCount", "I", false)
  | 4 => ("java/util/HashMap", "threshold", "I", false)
  | 5 => ("java/util/HashMap", "loadFactor", "F", true)
  | 6 => ("java/util/AbstractMap", "keySet", "Ljava/util/Set;", false)
  | 7 => ("java/util/AbstractMap", "values", "Ljava/util/Collection;", false)
  | 8 => ("java/util/LinkedHashMap", "head", "Ljava/util/LinkedHashMap$Entry;", false)
  | 9 => ("java/util/LinkedHashMap", "tail", "Ljava/util/LinkedHashMap$Entry;", false)
  | 10 => ("java/util/LinkedHashMap", "accessOrder", "Z", true)
  | _ => ("java/util/LinkedHashMap", "putMode", "I", false)
def tyJ22 : Nat → FieldType := fun k => match k with
  | 0 => .array (.object "java/util/HashMap$Node")
  | 1 => .object "java/util/Set"
  | 2 => .int
  | 3 => .int
  | 4 => .int
  | 5 => .float
  | 6 => .object "java/util/Set"
  | 7 => .object "java/util/Collection"
  | 8 => .object "java/util/LinkedHashMap$Entry"
  | 9 => .object "java/util/LinkedHashMap$Entry"
  | 10 => .boolean
  | _ => .int
abbrev wsJ220 : List Cond := u_ws RJ22 TJ22 12
theorem nmJ22 : ∀ a, a < 12 → ∀ b, b < 12 → a ≠ b → (TJ22 a).2.1 ≠ (TJ22 b).2.1 := by decide +kernel
theorem tyJ22_ok : ∀ k, k < 12 → parseFieldDescriptor (TJ22 k).2.2.1 = some (tyJ22 k) := by decide +kernel
abbrev cJ22_init : ByteArray := prog_55_method_14_code
def yJ22_init : MethodName := ⟨RJ22, "<init>", "(IF)V"⟩
def dkwJ22_init_0 : List UInt8 := [42, 27, 36, 183, 0, 81, 42, 3, 181, 0, 1, 42, 3, 181, 0, 64, 177]
abbrev dktJ22_init_0 : List UInt8 := dkwJ22_init_0 ++ []
theorem dksJ22_init_0 : cJ22_init.data.toList.drop 0 = dktJ22_init_0 := by decide +kernel
theorem dJ22_init_0 : decode cJ22_init 0 = .ok (.aload_n 0, 1) := dk_42 (dk_at dksJ22_init_0 0 rfl rfl)
theorem dJ22_init_1 : decode cJ22_init 1 = .ok (.iload_n 1, 1) := dk_27 (dk_at dksJ22_init_0 1 rfl rfl)
theorem dJ22_init_2 : decode cJ22_init 2 = .ok (.fload_n 2, 1) := dk_36 (dk_at dksJ22_init_0 2 rfl rfl)
theorem dJ22_init_3 : decode cJ22_init 3 = .ok (.invokespecial 81, 3) := dk_183 0 81 (dk_at dksJ22_init_0 3 rfl rfl)
theorem dJ22_init_6 : decode cJ22_init 6 = .ok (.aload_n 0, 1) := dk_42 (dk_at dksJ22_init_0 6 rfl rfl)
theorem dJ22_init_7 : decode cJ22_init 7 = .ok (.iconst 0, 1) := dk_3 (dk_at dksJ22_init_0 7 rfl rfl)
theorem dJ22_init_8 : decode cJ22_init 8 = .ok (.putfield 1, 3) := dk_181 0 1 (dk_at dksJ22_init_0 8 rfl rfl)
theorem dJ22_init_11 : decode cJ22_init 11 = .ok (.aload_n 0, 1) := dk_42 (dk_at dksJ22_init_0 11 rfl rfl)
theorem dJ22_init_12 : decode cJ22_init 12 = .ok (.iconst 0, 1) := dk_3 (dk_at dksJ22_init_0 12 rfl rfl)
theorem dJ22_init_13 : decode cJ22_init 13 = .ok (.putfield 64, 3) := dk_181 0 64 (dk_at dksJ22_init_0 13 rfl rfl)
theorem dJ22_init_16 : decode cJ22_init 16 = .ok (.return_, 1) := dk_177 (dk_at dksJ22_init_0 16 rfl rfl)
abbrev cJ22_replacementNode : ByteArray := prog_55_method_5_code
def yJ22_replacementNode : MethodName := ⟨RJ22, "replacementNode", "(Ljava/util/HashMap$Node;Ljava/util/HashMap$Node;)Ljava/util/HashMap$Node;"⟩
def dkwJ22_replacementNode_1 : List UInt8 := [183, 0, 28, 58, 4, 42, 45, 25, 4, 182, 0, 46, 25, 4, 176]
abbrev dktJ22_replacementNode_1 : List UInt8 := dkwJ22_replacementNode_1 ++ []
def dkwJ22_replacementNode_0 : List UInt8 := [43, 192, 0, 15, 78, 187, 0, 15, 89, 45, 180, 0, 36, 45, 180, 0, 39, 45, 180, 0, 43, 44]
abbrev dktJ22_replacementNode_0 : List UInt8 := dkwJ22_replacementNode_0 ++ dktJ22_replacementNode_1
theorem dksJ22_replacementNode_0 : cJ22_replacementNode.data.toList.drop 0 = dktJ22_replacementNode_0 := by decide +kernel
theorem dksJ22_replacementNode_1 : cJ22_replacementNode.data.toList.drop 22 = dktJ22_replacementNode_1 := dk_seg dksJ22_replacementNode_0 22 rfl rfl
theorem dJ22_replacementNode_0 : decode cJ22_replacementNode 0 = .ok (.aload_n 1, 1) := dk_43 (dk_at dksJ22_replacementNode_0 0 rfl rfl)
theorem dJ22_replacementNode_1 : decode cJ22_replacementNode 1 = .ok (.checkcast 15, 3) := dk_192 0 15 (dk_at dksJ22_replacementNode_0 1 rfl rfl)
theorem dJ22_replacementNode_4 : decode cJ22_replacementNode 4 = .ok (.astore_n 3, 1) := dk_78 (dk_at dksJ22_replacementNode_0 4 rfl rfl)
theorem dJ22_replacementNode_5 : decode cJ22_replacementNode 5 = .ok (.new 15, 3) := dk_187 0 15 (dk_at dksJ22_replacementNode_0 5 rfl rfl)
theorem dJ22_replacementNode_8 : decode cJ22_replacementNode 8 = .ok (.dup, 1) := dk_89 (dk_at dksJ22_replacementNode_0 8 rfl rfl)
theorem dJ22_replacementNode_9 : decode cJ22_replacementNode 9 = .ok (.aload_n 3, 1) := dk_45 (dk_at dksJ22_replacementNode_0 9 rfl rfl)
theorem dJ22_replacementNode_10 : decode cJ22_replacementNode 10 = .ok (.getfield 36, 3) := dk_180 0 36 (dk_at dksJ22_replacementNode_0 10 rfl rfl)
theorem dJ22_replacementNode_13 : decode cJ22_replacementNode 13 = .ok (.aload_n 3, 1) := dk_45 (dk_at dksJ22_replacementNode_0 13 rfl rfl)
theorem dJ22_replacementNode_14 : decode cJ22_replacementNode 14 = .ok (.getfield 39, 3) := dk_180 0 39 (dk_at dksJ22_replacementNode_0 14 rfl rfl)
theorem dJ22_replacementNode_17 : decode cJ22_replacementNode 17 = .ok (.aload_n 3, 1) := dk_45 (dk_at dksJ22_replacementNode_0 17 rfl rfl)
theorem dJ22_replacementNode_18 : decode cJ22_replacementNode 18 = .ok (.getfield 43, 3) := dk_180 0 43 (dk_at dksJ22_replacementNode_0 18 rfl rfl)
theorem dJ22_replacementNode_21 : decode cJ22_replacementNode 21 = .ok (.aload_n 2, 1) := dk_44 (dk_at dksJ22_replacementNode_0 21 rfl rfl)
theorem dJ22_replacementNode_22 : decode cJ22_replacementNode 22 = .ok (.invokespecial 28, 3) := dk_183 0 28 (dk_at dksJ22_replacementNode_1 0 rfl rfl)
theorem dJ22_replacementNode_25 : decode cJ22_replacementNode 25 = .ok (.astore 4, 2) := dk_58 4 (dk_at dksJ22_replacementNode_1 3 rfl rfl)
theorem dJ22_replacementNode_27 : decode cJ22_replacementNode 27 = .ok (.aload_n 0, 1) := dk_42 (dk_at dksJ22_replacementNode_1 5 rfl rfl)
theorem dJ22_replacementNode_28 : decode cJ22_replacementNode 28 = .ok (.aload_n 3, 1) := dk_45 (dk_at dksJ22_replacementNode_1 6 rfl rfl)
theorem dJ22_replacementNode_29 : decode cJ22_replacementNode 29 = .ok (.aload 4, 2) := dk_25 4 (dk_at dksJ22_replacementNode_1 7 rfl rfl)
theorem dJ22_replacementNode_31 : decode cJ22_replacementNode 31 = .ok (.invokevirtual 46, 3) := dk_182 0 46 (dk_at dksJ22_replacementNode_1 9 rfl rfl)
theorem dJ22_replacementNode_34 : decode cJ22_replacementNode 34 = .ok (.aload 4, 2) := dk_25 4 (dk_at dksJ22_replacementNode_1 12 rfl rfl)
theorem dJ22_replacementNode_36 : decode cJ22_replacementNode 36 = .ok (.areturn, 1) := dk_176 (dk_at dksJ22_replacementNode_1 14 rfl rfl)
abbrev cJ22_transferLinks : ByteArray := prog_55_method_2_code
def yJ22_transferLinks : MethodName := ⟨RJ22, "transferLinks", "(Ljava/util/LinkedHashMap$Entry;Ljava/util/LinkedHashMap$Entry;)V"⟩
def dkwJ22_transferLinks_2 : List UInt8 := [181, 0, 11, 167, 0, 9, 25, 4, 44, 181, 0, 19, 177]
abbrev dktJ22_transferLinks_2 : List UInt8 := dkwJ22_transferLinks_2 ++ []
def dkwJ22_transferLinks_1 : List UInt8 := [199, 0, 11, 42, 44, 181, 0, 7, 167, 0, 8, 45, 44, 181, 0, 14, 25, 4, 199, 0, 11, 42, 44]
abbrev dktJ22_transferLinks_1 : List UInt8 := dkwJ22_transferLinks_1 ++ dktJ22_transferLinks_2
def dkwJ22_transferLinks_0 : List UInt8 := [44, 43, 180, 0, 19, 90, 181, 0, 19, 78, 44, 43, 180, 0, 14, 90, 181, 0, 14, 58, 4, 45]
abbrev dktJ22_transferLinks_0 : List UInt8 := dkwJ22_transferLinks_0 ++ dktJ22_transferLinks_1
theorem dksJ22_transferLinks_0 : cJ22_transferLinks.data.toList.drop 0 = dktJ22_transferLinks_0 := by decide +kernel
theorem dksJ22_transferLinks_1 : cJ22_transferLinks.data.toList.drop 22 = dktJ22_transferLinks_1 := dk_seg dksJ22_transferLinks_0 22 rfl rfl
theorem dksJ22_transferLinks_2 : cJ22_transferLinks.data.toList.drop 45 = dktJ22_transferLinks_2 := dk_seg dksJ22_transferLinks_1 23 rfl rfl
theorem dJ22_transferLinks_0 : decode cJ22_transferLinks 0 = .ok (.aload_n 2, 1) := dk_44 (dk_at dksJ22_transferLinks_0 0 rfl rfl)
theorem dJ22_transferLinks_1 : decode cJ22_transferLinks 1 = .ok (.aload_n 1, 1) := dk_43 (dk_at dksJ22_transferLinks_0 1 rfl rfl)
theorem dJ22_transferLinks_2 : decode cJ22_transferLinks 2 = .ok (.getfield 19, 3) := dk_180 0 19 (dk_at dksJ22_transferLinks_0 2 rfl rfl)
theorem dJ22_transferLinks_5 : decode cJ22_transferLinks 5 = .ok (.dup_x1, 1) := dk_90 (dk_at dksJ22_transferLinks_0 5 rfl rfl)
theorem dJ22_transferLinks_6 : decode cJ22_transferLinks 6 = .ok (.putfield 19, 3) := dk_181 0 19 (dk_at dksJ22_transferLinks_0 6 rfl rfl)
theorem dJ22_transferLinks_9 : decode cJ22_transferLinks 9 = .ok (.astore_n 3, 1) := dk_78 (dk_at dksJ22_transferLinks_0 9 rfl rfl)
theorem dJ22_transferLinks_10 : decode cJ22_transferLinks 10 = .ok (.aload_n 2, 1) := dk_44 (dk_at dksJ22_transferLinks_0 10 rfl rfl)
theorem dJ22_transferLinks_11 : decode cJ22_transferLinks 11 = .ok (.aload_n 1, 1) := dk_43 (dk_at dksJ22_transferLinks_0 11 rfl rfl)
theorem dJ22_transferLinks_12 : decode cJ22_transferLinks 12 = .ok (.getfield 14, 3) := dk_180 0 14 (dk_at dksJ22_transferLinks_0 12 rfl rfl)
theorem dJ22_transferLinks_15 : decode cJ22_transferLinks 15 = .ok (.dup_x1, 1) := dk_90 (dk_at dksJ22_transferLinks_0 15 rfl rfl)
theorem dJ22_transferLinks_16 : decode cJ22_transferLinks 16 = .ok (.putfield 14, 3) := dk_181 0 14 (dk_at dksJ22_transferLinks_0 16 rfl rfl)
theorem dJ22_transferLinks_19 : decode cJ22_transferLinks 19 = .ok (.astore 4, 2) := dk_58 4 (dk_at dksJ22_transferLinks_0 19 rfl rfl)
theorem dJ22_transferLinks_21 : decode cJ22_transferLinks 21 = .ok (.aload_n 3, 1) := dk_45 (dk_at dksJ22_transferLinks_0 21 rfl rfl)
theorem dJ22_transferLinks_22 : decode cJ22_transferLinks 22 = .ok (.ifnonnull 11, 3) := dk_199 0 11 (dk_at dksJ22_transferLinks_1 0 rfl rfl)
theorem dJ22_transferLinks_25 : decode cJ22_transferLinks 25 = .ok (.aload_n 0, 1) := dk_42 (dk_at dksJ22_transferLinks_1 3 rfl rfl)
theorem dJ22_transferLinks_26 : decode cJ22_transferLinks 26 = .ok (.aload_n 2, 1) := dk_44 (dk_at dksJ22_transferLinks_1 4 rfl rfl)
theorem dJ22_transferLinks_27 : decode cJ22_transferLinks 27 = .ok (.putfield 7, 3) := dk_181 0 7 (dk_at dksJ22_transferLinks_1 5 rfl rfl)
theorem dJ22_transferLinks_30 : decode cJ22_transferLinks 30 = .ok (.goto 8, 3) := dk_167 0 8 (dk_at dksJ22_transferLinks_1 8 rfl rfl)
theorem dJ22_transferLinks_33 : decode cJ22_transferLinks 33 = .ok (.aload_n 3, 1) := dk_45 (dk_at dksJ22_transferLinks_1 11 rfl rfl)
theorem dJ22_transferLinks_34 : decode cJ22_transferLinks 34 = .ok (.aload_n 2, 1) := dk_44 (dk_at dksJ22_transferLinks_1 12 rfl rfl)
theorem dJ22_transferLinks_35 : decode cJ22_transferLinks 35 = .ok (.putfield 14, 3) := dk_181 0 14 (dk_at dksJ22_transferLinks_1 13 rfl rfl)
theorem dJ22_transferLinks_38 : decode cJ22_transferLinks 38 = .ok (.aload 4, 2) := dk_25 4 (dk_at dksJ22_transferLinks_1 16 rfl rfl)
theorem dJ22_transferLinks_40 : decode cJ22_transferLinks 40 = .ok (.ifnonnull 11, 3) := dk_199 0 11 (dk_at dksJ22_transferLinks_1 18 rfl rfl)
theorem dJ22_transferLinks_43 : decode cJ22_transferLinks 43 = .ok (.aload_n 0, 1) := dk_42 (dk_at dksJ22_transferLinks_1 21 rfl rfl)
theorem dJ22_transferLinks_44 : decode cJ22_transferLinks 44 = .ok (.aload_n 2, 1) := dk_44 (dk_at dksJ22_transferLinks_1 22 rfl rfl)
theorem dJ22_transferLinks_45 : decode cJ22_transferLinks 45 = .ok (.putfield 11, 3) := dk_181 0 11 (dk_at dksJ22_transferLinks_2 0 rfl rfl)
theorem dJ22_transferLinks_48 : decode cJ22_transferLinks 48 = .ok (.goto 9, 3) := dk_167 0 9 (dk_at dksJ22_transferLinks_2 3 rfl rfl)
theorem dJ22_transferLinks_51 : decode cJ22_transferLinks 51 = .ok (.aload 4, 2) := dk_25 4 (dk_at dksJ22_transferLinks_2 6 rfl rfl)
theorem dJ22_transferLinks_53 : decode cJ22_transferLinks 53 = .ok (.aload_n 2, 1) := dk_44 (dk_at dksJ22_transferLinks_2 8 rfl rfl)
theorem dJ22_transferLinks_54 : decode cJ22_transferLinks 54 = .ok (.putfield 19, 3) := dk_181 0 19 (dk_at dksJ22_transferLinks_2 9 rfl rfl)
theorem dJ22_transferLinks_57 : decode cJ22_transferLinks 57 = .ok (.return_, 1) := dk_177 (dk_at dksJ22_transferLinks_2 12 rfl rfl)
abbrev cJ22_newNode : ByteArray := prog_55_method_4_code
def yJ22_newNode : MethodName := ⟨RJ22, "newNode", "(ILjava/lang/Object;Ljava/lang/Object;Ljava/util/HashMap$Node;)Ljava/util/HashMap$Node;"⟩
def dkwJ22_newNode_0 : List UInt8 := [187, 0, 15, 89, 27, 44, 45, 25, 4, 183, 0, 28, 58, 5, 42, 25, 5, 182, 0, 32, 25, 5, 176]
abbrev dktJ22_newNode_0 : List UInt8 := dkwJ22_newNode_0 ++ []
theorem dksJ22_newNode_0 : cJ22_newNode.data.toList.drop 0 = dktJ22_newNode_0 := by decide +kernel
theorem dJ22_newNode_0 : decode cJ22_newNode 0 = .ok (.new 15, 3) := dk_187 0 15 (dk_at dksJ22_newNode_0 0 rfl rfl)
theorem dJ22_newNode_3 : decode cJ22_newNode 3 = .ok (.dup, 1) := dk_89 (dk_at dksJ22_newNode_0 3 rfl rfl)
theorem dJ22_newNode_4 : decode cJ22_newNode 4 = .ok (.iload_n 1, 1) := dk_27 (dk_at dksJ22_newNode_0 4 rfl rfl)
theorem dJ22_newNode_5 : decode cJ22_newNode 5 = .ok (.aload_n 2, 1) := dk_44 (dk_at dksJ22_newNode_0 5 rfl rfl)
theorem dJ22_newNode_6 : decode cJ22_newNode 6 = .ok (.aload_n 3, 1) := dk_45 (dk_at dksJ22_newNode_0 6 rfl rfl)
theorem dJ22_newNode_7 : decode cJ22_newNode 7 = .ok (.aload 4, 2) := dk_25 4 (dk_at dksJ22_newNode_0 7 rfl rfl)
theorem dJ22_newNode_9 : decode cJ22_newNode 9 = .ok (.invokespecial 28, 3) := dk_183 0 28 (dk_at dksJ22_newNode_0 9 rfl rfl)
theorem dJ22_newNode_12 : decode cJ22_newNode 12 = .ok (.astore 5, 2) := dk_58 5 (dk_at dksJ22_newNode_0 12 rfl rfl)
theorem dJ22_newNode_14 : decode cJ22_newNode 14 = .ok (.aload_n 0, 1) := dk_42 (dk_at dksJ22_newNode_0 14 rfl rfl)
theorem dJ22_newNode_15 : decode cJ22_newNode 15 = .ok (.aload 5, 2) := dk_25 5 (dk_at dksJ22_newNode_0 15 rfl rfl)
theorem dJ22_newNode_17 : decode cJ22_newNode 17 = .ok (.invokevirtual 32, 3) := dk_182 0 32 (dk_at dksJ22_newNode_0 17 rfl rfl)
theorem dJ22_newNode_20 : decode cJ22_newNode 20 = .ok (.aload 5, 2) := dk_25 5 (dk_at dksJ22_newNode_0 20 rfl rfl)
theorem dJ22_newNode_22 : decode cJ22_newNode 22 = .ok (.areturn, 1) := dk_176 (dk_at dksJ22_newNode_0 22 rfl rfl)
abbrev cJ22_linkNodeAtEnd : ByteArray := prog_55_method_1_code
def yJ22_linkNodeAtEnd : MethodName := ⟨RJ22, "linkNodeAtEnd", "(Ljava/util/LinkedHashMap$Entry;)V"⟩
def dkwJ22_linkNodeAtEnd_3 : List UInt8 := [181, 0, 14, 177]
abbrev dktJ22_linkNodeAtEnd_3 : List UInt8 := dkwJ22_linkNodeAtEnd_3 ++ []
def dkwJ22_linkNodeAtEnd_2 : List UInt8 := [42, 43, 181, 0, 11, 44, 199, 0, 11, 42, 43, 181, 0, 7, 167, 0, 13, 43, 44, 181, 0, 19, 44, 43]
abbrev dktJ22_linkNodeAtEnd_2 : List UInt8 := dkwJ22_linkNodeAtEnd_2 ++ dktJ22_linkNodeAtEnd_3
def dkwJ22_linkNodeAtEnd_1 : List UInt8 := [181, 0, 11, 167, 0, 13, 43, 44, 181, 0, 14, 44, 43, 181, 0, 19, 167, 0, 35, 42, 180, 0, 11, 77]
abbrev dktJ22_linkNodeAtEnd_1 : List UInt8 := dkwJ22_linkNodeAtEnd_1 ++ dktJ22_linkNodeAtEnd_2
def dkwJ22_linkNodeAtEnd_0 : List UInt8 := [42, 180, 0, 1, 4, 160, 0, 38, 42, 180, 0, 7, 77, 42, 43, 181, 0, 7, 44, 199, 0, 11, 42, 43]
abbrev dktJ22_linkNodeAtEnd_0 : List UInt8 := dkwJ22_linkNodeAtEnd_0 ++ dktJ22_linkNodeAtEnd_1
theorem dksJ22_linkNodeAtEnd_0 : cJ22_linkNodeAtEnd.data.toList.drop 0 = dktJ22_linkNodeAtEnd_0 := by decide +kernel
theorem dksJ22_linkNodeAtEnd_1 : cJ22_linkNodeAtEnd.data.toList.drop 24 = dktJ22_linkNodeAtEnd_1 := dk_seg dksJ22_linkNodeAtEnd_0 24 rfl rfl
theorem dksJ22_linkNodeAtEnd_2 : cJ22_linkNodeAtEnd.data.toList.drop 48 = dktJ22_linkNodeAtEnd_2 := dk_seg dksJ22_linkNodeAtEnd_1 24 rfl rfl
theorem dksJ22_linkNodeAtEnd_3 : cJ22_linkNodeAtEnd.data.toList.drop 72 = dktJ22_linkNodeAtEnd_3 := dk_seg dksJ22_linkNodeAtEnd_2 24 rfl rfl
theorem dJ22_linkNodeAtEnd_0 : decode cJ22_linkNodeAtEnd 0 = .ok (.aload_n 0, 1) := dk_42 (dk_at dksJ22_linkNodeAtEnd_0 0 rfl rfl)
theorem dJ22_linkNodeAtEnd_1 : decode cJ22_linkNodeAtEnd 1 = .ok (.getfield 1, 3) := dk_180 0 1 (dk_at dksJ22_linkNodeAtEnd_0 1 rfl rfl)
theorem dJ22_linkNodeAtEnd_4 : decode cJ22_linkNodeAtEnd 4 = .ok (.iconst 1, 1) := dk_4 (dk_at dksJ22_linkNodeAtEnd_0 4 rfl rfl)
theorem dJ22_linkNodeAtEnd_5 : decode cJ22_linkNodeAtEnd 5 = .ok (.if_icmp .ne 38, 3) := dk_160 0 38 (dk_at dksJ22_linkNodeAtEnd_0 5 rfl rfl)
theorem dJ22_linkNodeAtEnd_8 : decode cJ22_linkNodeAtEnd 8 = .ok (.aload_n 0, 1) := dk_42 (dk_at dksJ22_linkNodeAtEnd_0 8 rfl rfl)
theorem dJ22_linkNodeAtEnd_9 : decode cJ22_linkNodeAtEnd 9 = .ok (.getfield 7, 3) := dk_180 0 7 (dk_at dksJ22_linkNodeAtEnd_0 9 rfl rfl)
theorem dJ22_linkNodeAtEnd_12 : decode cJ22_linkNodeAtEnd 12 = .ok (.astore_n 2, 1) := dk_77 (dk_at dksJ22_linkNodeAtEnd_0 12 rfl rfl)
theorem dJ22_linkNodeAtEnd_13 : decode cJ22_linkNodeAtEnd 13 = .ok (.aload_n 0, 1) := dk_42 (dk_at dksJ22_linkNodeAtEnd_0 13 rfl rfl)
theorem dJ22_linkNodeAtEnd_14 : decode cJ22_linkNodeAtEnd 14 = .ok (.aload_n 1, 1) := dk_43 (dk_at dksJ22_linkNodeAtEnd_0 14 rfl rfl)
theorem dJ22_linkNodeAtEnd_15 : decode cJ22_linkNodeAtEnd 15 = .ok (.putfield 7, 3) := dk_181 0 7 (dk_at dksJ22_linkNodeAtEnd_0 15 rfl rfl)
theorem dJ22_linkNodeAtEnd_18 : decode cJ22_linkNodeAtEnd 18 = .ok (.aload_n 2, 1) := dk_44 (dk_at dksJ22_linkNodeAtEnd_0 18 rfl rfl)
theorem dJ22_linkNodeAtEnd_19 : decode cJ22_linkNodeAtEnd 19 = .ok (.ifnonnull 11, 3) := dk_199 0 11 (dk_at dksJ22_linkNodeAtEnd_0 19 rfl rfl)
theorem dJ22_linkNodeAtEnd_22 : decode cJ22_linkNodeAtEnd 22 = .ok (.aload_n 0, 1) := dk_42 (dk_at dksJ22_linkNodeAtEnd_0 22 rfl rfl)
theorem dJ22_linkNodeAtEnd_23 : decode cJ22_linkNodeAtEnd 23 = .ok (.aload_n 1, 1) := dk_43 (dk_at dksJ22_linkNodeAtEnd_0 23 rfl rfl)
theorem dJ22_linkNodeAtEnd_24 : decode cJ22_linkNodeAtEnd 24 = .ok (.putfield 11, 3) := dk_181 0 11 (dk_at dksJ22_linkNodeAtEnd_1 0 rfl rfl)
theorem dJ22_linkNodeAtEnd_27 : decode cJ22_linkNodeAtEnd 27 = .ok (.goto 13, 3) := dk_167 0 13 (dk_at dksJ22_linkNodeAtEnd_1 3 rfl rfl)
theorem dJ22_linkNodeAtEnd_30 : decode cJ22_linkNodeAtEnd 30 = .ok (.aload_n 1, 1) := dk_43 (dk_at dksJ22_linkNodeAtEnd_1 6 rfl rfl)
theorem dJ22_linkNodeAtEnd_31 : decode cJ22_linkNodeAtEnd 31 = .ok (.aload_n 2, 1) := dk_44 (dk_at dksJ22_linkNodeAtEnd_1 7 rfl rfl)
theorem dJ22_linkNodeAtEnd_32 : decode cJ22_linkNodeAtEnd 32 = .ok (.putfield 14, 3) := dk_181 0 14 (dk_at dksJ22_linkNodeAtEnd_1 8 rfl rfl)
theorem dJ22_linkNodeAtEnd_35 : decode cJ22_linkNodeAtEnd 35 = .ok (.aload_n 2, 1) := dk_44 (dk_at dksJ22_linkNodeAtEnd_1 11 rfl rfl)
theorem dJ22_linkNodeAtEnd_36 : decode cJ22_linkNodeAtEnd 36 = .ok (.aload_n 1, 1) := dk_43 (dk_at dksJ22_linkNodeAtEnd_1 12 rfl rfl)
theorem dJ22_linkNodeAtEnd_37 : decode cJ22_linkNodeAtEnd 37 = .ok (.putfield 19, 3) := dk_181 0 19 (dk_at dksJ22_linkNodeAtEnd_1 13 rfl rfl)
theorem dJ22_linkNodeAtEnd_40 : decode cJ22_linkNodeAtEnd 40 = .ok (.goto 35, 3) := dk_167 0 35 (dk_at dksJ22_linkNodeAtEnd_1 16 rfl rfl)
theorem dJ22_linkNodeAtEnd_43 : decode cJ22_linkNodeAtEnd 43 = .ok (.aload_n 0, 1) := dk_42 (dk_at dksJ22_linkNodeAtEnd_1 19 rfl rfl)
theorem dJ22_linkNodeAtEnd_44 : decode cJ22_linkNodeAtEnd 44 = .ok (.getfield 11, 3) := dk_180 0 11 (dk_at dksJ22_linkNodeAtEnd_1 20 rfl rfl)
theorem dJ22_linkNodeAtEnd_47 : decode cJ22_linkNodeAtEnd 47 = .ok (.astore_n 2, 1) := dk_77 (dk_at dksJ22_linkNodeAtEnd_1 23 rfl rfl)
theorem dJ22_linkNodeAtEnd_48 : decode cJ22_linkNodeAtEnd 48 = .ok (.aload_n 0, 1) := dk_42 (dk_at dksJ22_linkNodeAtEnd_2 0 rfl rfl)
theorem dJ22_linkNodeAtEnd_49 : decode cJ22_linkNodeAtEnd 49 = .ok (.aload_n 1, 1) := dk_43 (dk_at dksJ22_linkNodeAtEnd_2 1 rfl rfl)
theorem dJ22_linkNodeAtEnd_50 : decode cJ22_linkNodeAtEnd 50 = .ok (.putfield 11, 3) := dk_181 0 11 (dk_at dksJ22_linkNodeAtEnd_2 2 rfl rfl)
theorem dJ22_linkNodeAtEnd_53 : decode cJ22_linkNodeAtEnd 53 = .ok (.aload_n 2, 1) := dk_44 (dk_at dksJ22_linkNodeAtEnd_2 5 rfl rfl)
theorem dJ22_linkNodeAtEnd_54 : decode cJ22_linkNodeAtEnd 54 = .ok (.ifnonnull 11, 3) := dk_199 0 11 (dk_at dksJ22_linkNodeAtEnd_2 6 rfl rfl)
theorem dJ22_linkNodeAtEnd_57 : decode cJ22_linkNodeAtEnd 57 = .ok (.aload_n 0, 1) := dk_42 (dk_at dksJ22_linkNodeAtEnd_2 9 rfl rfl)
theorem dJ22_linkNodeAtEnd_58 : decode cJ22_linkNodeAtEnd 58 = .ok (.aload_n 1, 1) := dk_43 (dk_at dksJ22_linkNodeAtEnd_2 10 rfl rfl)
theorem dJ22_linkNodeAtEnd_59 : decode cJ22_linkNodeAtEnd 59 = .ok (.putfield 7, 3) := dk_181 0 7 (dk_at dksJ22_linkNodeAtEnd_2 11 rfl rfl)
theorem dJ22_linkNodeAtEnd_62 : decode cJ22_linkNodeAtEnd 62 = .ok (.goto 13, 3) := dk_167 0 13 (dk_at dksJ22_linkNodeAtEnd_2 14 rfl rfl)
theorem dJ22_linkNodeAtEnd_65 : decode cJ22_linkNodeAtEnd 65 = .ok (.aload_n 1, 1) := dk_43 (dk_at dksJ22_linkNodeAtEnd_2 17 rfl rfl)
theorem dJ22_linkNodeAtEnd_66 : decode cJ22_linkNodeAtEnd 66 = .ok (.aload_n 2, 1) := dk_44 (dk_at dksJ22_linkNodeAtEnd_2 18 rfl rfl)
theorem dJ22_linkNodeAtEnd_67 : decode cJ22_linkNodeAtEnd 67 = .ok (.putfield 19, 3) := dk_181 0 19 (dk_at dksJ22_linkNodeAtEnd_2 19 rfl rfl)
theorem dJ22_linkNodeAtEnd_70 : decode cJ22_linkNodeAtEnd 70 = .ok (.aload_n 2, 1) := dk_44 (dk_at dksJ22_linkNodeAtEnd_2 22 rfl rfl)
theorem dJ22_linkNodeAtEnd_71 : decode cJ22_linkNodeAtEnd 71 = .ok (.aload_n 1, 1) := dk_43 (dk_at dksJ22_linkNodeAtEnd_2 23 rfl rfl)
theorem dJ22_linkNodeAtEnd_72 : decode cJ22_linkNodeAtEnd 72 = .ok (.putfield 14, 3) := dk_181 0 14 (dk_at dksJ22_linkNodeAtEnd_3 0 rfl rfl)
theorem dJ22_linkNodeAtEnd_75 : decode cJ22_linkNodeAtEnd 75 = .ok (.return_, 1) := dk_177 (dk_at dksJ22_linkNodeAtEnd_3 3 rfl rfl)
abbrev cJ22_newTreeNode : ByteArray := prog_55_method_6_code
def yJ22_newTreeNode : MethodName := ⟨RJ22, "newTreeNode", "(ILjava/lang/Object;Ljava/lang/Object;Ljava/util/HashMap$Node;)Ljava/util/HashMap$TreeNode;"⟩
def dkwJ22_newTreeNode_0 : List UInt8 := [187, 0, 50, 89, 27, 44, 45, 25, 4, 183, 0, 52, 58, 5, 42, 25, 5, 182, 0, 32, 25, 5, 176]
abbrev dktJ22_newTreeNode_0 : List UInt8 := dkwJ22_newTreeNode_0 ++ []
theorem dksJ22_newTreeNode_0 : cJ22_newTreeNode.data.toList.drop 0 = dktJ22_newTreeNode_0 := by decide +kernel
theorem dJ22_newTreeNode_0 : decode cJ22_newTreeNode 0 = .ok (.new 50, 3) := dk_187 0 50 (dk_at dksJ22_newTreeNode_0 0 rfl rfl)
theorem dJ22_newTreeNode_3 : decode cJ22_newTreeNode 3 = .ok (.dup, 1) := dk_89 (dk_at dksJ22_newTreeNode_0 3 rfl rfl)
theorem dJ22_newTreeNode_4 : decode cJ22_newTreeNode 4 = .ok (.iload_n 1, 1) := dk_27 (dk_at dksJ22_newTreeNode_0 4 rfl rfl)
theorem dJ22_newTreeNode_5 : decode cJ22_newTreeNode 5 = .ok (.aload_n 2, 1) := dk_44 (dk_at dksJ22_newTreeNode_0 5 rfl rfl)
theorem dJ22_newTreeNode_6 : decode cJ22_newTreeNode 6 = .ok (.aload_n 3, 1) := dk_45 (dk_at dksJ22_newTreeNode_0 6 rfl rfl)
theorem dJ22_newTreeNode_7 : decode cJ22_newTreeNode 7 = .ok (.aload 4, 2) := dk_25 4 (dk_at dksJ22_newTreeNode_0 7 rfl rfl)
theorem dJ22_newTreeNode_9 : decode cJ22_newTreeNode 9 = .ok (.invokespecial 52, 3) := dk_183 0 52 (dk_at dksJ22_newTreeNode_0 9 rfl rfl)
theorem dJ22_newTreeNode_12 : decode cJ22_newTreeNode 12 = .ok (.astore 5, 2) := dk_58 5 (dk_at dksJ22_newTreeNode_0 12 rfl rfl)
theorem dJ22_newTreeNode_14 : decode cJ22_newTreeNode 14 = .ok (.aload_n 0, 1) := dk_42 (dk_at dksJ22_newTreeNode_0 14 rfl rfl)
theorem dJ22_newTreeNode_15 : decode cJ22_newTreeNode 15 = .ok (.aload 5, 2) := dk_25 5 (dk_at dksJ22_newTreeNode_0 15 rfl rfl)
theorem dJ22_newTreeNode_17 : decode cJ22_newTreeNode 17 = .ok (.invokevirtual 32, 3) := dk_182 0 32 (dk_at dksJ22_newTreeNode_0 17 rfl rfl)
theorem dJ22_newTreeNode_20 : decode cJ22_newTreeNode 20 = .ok (.aload 5, 2) := dk_25 5 (dk_at dksJ22_newTreeNode_0 20 rfl rfl)
theorem dJ22_newTreeNode_22 : decode cJ22_newTreeNode 22 = .ok (.areturn, 1) := dk_176 (dk_at dksJ22_newTreeNode_0 22 rfl rfl)
abbrev cJ22_replacementTreeNode : ByteArray := prog_55_method_7_code
def yJ22_replacementTreeNode : MethodName := ⟨RJ22, "replacementTreeNode", "(Ljava/util/HashMap$Node;Ljava/util/HashMap$Node;)Ljava/util/HashMap$TreeNode;"⟩
def dkwJ22_replacementTreeNode_1 : List UInt8 := [183, 0, 52, 58, 4, 42, 45, 25, 4, 182, 0, 46, 25, 4, 176]
abbrev dktJ22_replacementTreeNode_1 : List UInt8 := dkwJ22_replacementTreeNode_1 ++ []
def dkwJ22_replacementTreeNode_0 : List UInt8 := [43, 192, 0, 15, 78, 187, 0, 50, 89, 45, 180, 0, 36, 45, 180, 0, 39, 45, 180, 0, 43, 44]
abbrev dktJ22_replacementTreeNode_0 : List UInt8 := dkwJ22_replacementTreeNode_0 ++ dktJ22_replacementTreeNode_1
theorem dksJ22_replacementTreeNode_0 : cJ22_replacementTreeNode.data.toList.drop 0 = dktJ22_replacementTreeNode_0 := by decide +kernel
theorem dksJ22_replacementTreeNode_1 : cJ22_replacementTreeNode.data.toList.drop 22 = dktJ22_replacementTreeNode_1 := dk_seg dksJ22_replacementTreeNode_0 22 rfl rfl
theorem dJ22_replacementTreeNode_0 : decode cJ22_replacementTreeNode 0 = .ok (.aload_n 1, 1) := dk_43 (dk_at dksJ22_replacementTreeNode_0 0 rfl rfl)
theorem dJ22_replacementTreeNode_1 : decode cJ22_replacementTreeNode 1 = .ok (.checkcast 15, 3) := dk_192 0 15 (dk_at dksJ22_replacementTreeNode_0 1 rfl rfl)
theorem dJ22_replacementTreeNode_4 : decode cJ22_replacementTreeNode 4 = .ok (.astore_n 3, 1) := dk_78 (dk_at dksJ22_replacementTreeNode_0 4 rfl rfl)
theorem dJ22_replacementTreeNode_5 : decode cJ22_replacementTreeNode 5 = .ok (.new 50, 3) := dk_187 0 50 (dk_at dksJ22_replacementTreeNode_0 5 rfl rfl)
theorem dJ22_replacementTreeNode_8 : decode cJ22_replacementTreeNode 8 = .ok (.dup, 1) := dk_89 (dk_at dksJ22_replacementTreeNode_0 8 rfl rfl)
theorem dJ22_replacementTreeNode_9 : decode cJ22_replacementTreeNode 9 = .ok (.aload_n 3, 1) := dk_45 (dk_at dksJ22_replacementTreeNode_0 9 rfl rfl)
theorem dJ22_replacementTreeNode_10 : decode cJ22_replacementTreeNode 10 = .ok (.getfield 36, 3) := dk_180 0 36 (dk_at dksJ22_replacementTreeNode_0 10 rfl rfl)
theorem dJ22_replacementTreeNode_13 : decode cJ22_replacementTreeNode 13 = .ok (.aload_n 3, 1) := dk_45 (dk_at dksJ22_replacementTreeNode_0 13 rfl rfl)
theorem dJ22_replacementTreeNode_14 : decode cJ22_replacementTreeNode 14 = .ok (.getfield 39, 3) := dk_180 0 39 (dk_at dksJ22_replacementTreeNode_0 14 rfl rfl)
theorem dJ22_replacementTreeNode_17 : decode cJ22_replacementTreeNode 17 = .ok (.aload_n 3, 1) := dk_45 (dk_at dksJ22_replacementTreeNode_0 17 rfl rfl)
theorem dJ22_replacementTreeNode_18 : decode cJ22_replacementTreeNode 18 = .ok (.getfield 43, 3) := dk_180 0 43 (dk_at dksJ22_replacementTreeNode_0 18 rfl rfl)
theorem dJ22_replacementTreeNode_21 : decode cJ22_replacementTreeNode 21 = .ok (.aload_n 2, 1) := dk_44 (dk_at dksJ22_replacementTreeNode_0 21 rfl rfl)
theorem dJ22_replacementTreeNode_22 : decode cJ22_replacementTreeNode 22 = .ok (.invokespecial 52, 3) := dk_183 0 52 (dk_at dksJ22_replacementTreeNode_1 0 rfl rfl)
theorem dJ22_replacementTreeNode_25 : decode cJ22_replacementTreeNode 25 = .ok (.astore 4, 2) := dk_58 4 (dk_at dksJ22_replacementTreeNode_1 3 rfl rfl)
theorem dJ22_replacementTreeNode_27 : decode cJ22_replacementTreeNode 27 = .ok (.aload_n 0, 1) := dk_42 (dk_at dksJ22_replacementTreeNode_1 5 rfl rfl)
theorem dJ22_replacementTreeNode_28 : decode cJ22_replacementTreeNode 28 = .ok (.aload_n 3, 1) := dk_45 (dk_at dksJ22_replacementTreeNode_1 6 rfl rfl)
theorem dJ22_replacementTreeNode_29 : decode cJ22_replacementTreeNode 29 = .ok (.aload 4, 2) := dk_25 4 (dk_at dksJ22_replacementTreeNode_1 7 rfl rfl)
theorem dJ22_replacementTreeNode_31 : decode cJ22_replacementTreeNode 31 = .ok (.invokevirtual 46, 3) := dk_182 0 46 (dk_at dksJ22_replacementTreeNode_1 9 rfl rfl)
theorem dJ22_replacementTreeNode_34 : decode cJ22_replacementTreeNode 34 = .ok (.aload 4, 2) := dk_25 4 (dk_at dksJ22_replacementTreeNode_1 12 rfl rfl)
theorem dJ22_replacementTreeNode_36 : decode cJ22_replacementTreeNode 36 = .ok (.areturn, 1) := dk_176 (dk_at dksJ22_replacementTreeNode_1 14 rfl rfl)
abbrev cJ22_afterNodeAccess : ByteArray := prog_55_method_10_code
def yJ22_afterNodeAccess : MethodName := ⟨RJ22, "afterNodeAccess", "(Ljava/util/HashMap$Node;)V"⟩
def dkwJ22_afterNodeAccess_11 : List UInt8 := [181, 0, 7, 42, 89, 180, 0, 68, 4, 96, 181, 0, 68, 177]
abbrev dktJ22_afterNodeAccess_11 : List UInt8 := dkwJ22_afterNodeAccess_11 ++ []
def dkwJ22_afterNodeAccess_10 : List UInt8 := [25, 4, 181, 0, 11, 167, 0, 15, 25, 4, 45, 181, 0, 14, 45, 25, 4, 181, 0, 19, 42, 25, 4]
abbrev dktJ22_afterNodeAccess_10 : List UInt8 := dkwJ22_afterNodeAccess_10 ++ dktJ22_afterNodeAccess_11
def dkwJ22_afterNodeAccess_9 : List UInt8 := [25, 5, 198, 0, 13, 25, 5, 25, 6, 181, 0, 14, 167, 0, 6, 25, 6, 78, 45, 199, 0, 12, 42]
abbrev dktJ22_afterNodeAccess_9 : List UInt8 := dkwJ22_afterNodeAccess_9 ++ dktJ22_afterNodeAccess_10
def dkwJ22_afterNodeAccess_8 : List UInt8 := [181, 0, 19, 25, 6, 199, 0, 12, 42, 25, 5, 181, 0, 11, 167, 0, 10, 25, 6, 25, 5, 181, 0, 19]
abbrev dktJ22_afterNodeAccess_8 : List UInt8 := dkwJ22_afterNodeAccess_8 ++ dktJ22_afterNodeAccess_9
def dkwJ22_afterNodeAccess_7 : List UInt8 := [43, 192, 0, 15, 58, 4, 25, 4, 180, 0, 19, 58, 5, 25, 4, 180, 0, 14, 58, 6, 25, 4, 1]
abbrev dktJ22_afterNodeAccess_7 : List UInt8 := dkwJ22_afterNodeAccess_7 ++ dktJ22_afterNodeAccess_8
def dkwJ22_afterNodeAccess_6 : List UInt8 := [181, 0, 68, 167, 0, 127, 42, 180, 0, 1, 4, 160, 0, 119, 42, 180, 0, 7, 89, 78, 43, 165, 0, 109]
abbrev dktJ22_afterNodeAccess_6 : List UInt8 := dkwJ22_afterNodeAccess_6 ++ dktJ22_afterNodeAccess_7
def dkwJ22_afterNodeAccess_5 : List UInt8 := [181, 0, 19, 44, 25, 4, 181, 0, 14, 42, 25, 4, 181, 0, 11, 42, 89, 180, 0, 68, 4, 96]
abbrev dktJ22_afterNodeAccess_5 : List UInt8 := dkwJ22_afterNodeAccess_5 ++ dktJ22_afterNodeAccess_6
def dkwJ22_afterNodeAccess_4 : List UInt8 := [167, 0, 6, 25, 5, 77, 44, 199, 0, 12, 42, 25, 4, 181, 0, 7, 167, 0, 15, 25, 4, 44]
abbrev dktJ22_afterNodeAccess_4 : List UInt8 := dkwJ22_afterNodeAccess_4 ++ dktJ22_afterNodeAccess_5
def dkwJ22_afterNodeAccess_3 : List UInt8 := [167, 0, 10, 25, 5, 25, 6, 181, 0, 14, 25, 6, 198, 0, 13, 25, 6, 25, 5, 181, 0, 19]
abbrev dktJ22_afterNodeAccess_3 : List UInt8 := dkwJ22_afterNodeAccess_3 ++ dktJ22_afterNodeAccess_4
def dkwJ22_afterNodeAccess_2 : List UInt8 := [180, 0, 14, 58, 6, 25, 4, 1, 181, 0, 14, 25, 5, 199, 0, 12, 42, 25, 6, 181, 0, 7]
abbrev dktJ22_afterNodeAccess_2 : List UInt8 := dkwJ22_afterNodeAccess_2 ++ dktJ22_afterNodeAccess_3
def dkwJ22_afterNodeAccess_1 : List UInt8 := [180, 0, 11, 89, 77, 43, 165, 0, 112, 43, 192, 0, 15, 58, 4, 25, 4, 180, 0, 19, 58, 5, 25, 4]
abbrev dktJ22_afterNodeAccess_1 : List UInt8 := dkwJ22_afterNodeAccess_1 ++ dktJ22_afterNodeAccess_2
def dkwJ22_afterNodeAccess_0 : List UInt8 := [42, 180, 0, 1, 5, 159, 0, 17, 42, 180, 0, 1, 154, 0, 129, 42, 180, 0, 64, 153, 0, 122, 42]
abbrev dktJ22_afterNodeAccess_0 : List UInt8 := dkwJ22_afterNodeAccess_0 ++ dktJ22_afterNodeAccess_1
theorem dksJ22_afterNodeAccess_0 : cJ22_afterNodeAccess.data.toList.drop 0 = dktJ22_afterNodeAccess_0 := by decide +kernel
theorem dksJ22_afterNodeAccess_1 : cJ22_afterNodeAccess.data.toList.drop 23 = dktJ22_afterNodeAccess_1 := dk_seg dksJ22_afterNodeAccess_0 23 rfl rfl
theorem dksJ22_afterNodeAccess_2 : cJ22_afterNodeAccess.data.toList.drop 47 = dktJ22_afterNodeAccess_2 := dk_seg dksJ22_afterNodeAccess_1 24 rfl rfl
theorem dksJ22_afterNodeAccess_3 : cJ22_afterNodeAccess.data.toList.drop 69 = dktJ22_afterNodeAccess_3 := dk_seg dksJ22_afterNodeAccess_2 22 rfl rfl
theorem dksJ22_afterNodeAccess_4 : cJ22_afterNodeAccess.data.toList.drop 91 = dktJ22_afterNodeAccess_4 := dk_seg dksJ22_afterNodeAccess_3 22 rfl rfl
theorem dksJ22_afterNodeAccess_5 : cJ22_afterNodeAccess.data.toList.drop 113 = dktJ22_afterNodeAccess_5 := dk_seg dksJ22_afterNodeAccess_4 22 rfl rfl
theorem dksJ22_afterNodeAccess_6 : cJ22_afterNodeAccess.data.toList.drop 135 = dktJ22_afterNodeAccess_6 := dk_seg dksJ22_afterNodeAccess_5 22 rfl rfl
theorem dksJ22_afterNodeAccess_7 : cJ22_afterNodeAccess.data.toList.drop 159 = dktJ22_afterNodeAccess_7 := dk_seg dksJ22_afterNodeAccess_6 24 rfl rfl
theorem dksJ22_afterNodeAccess_8 : cJ22_afterNodeAccess.data.toList.drop 182 = dktJ22_afterNodeAccess_8 := dk_seg dksJ22_afterNodeAccess_7 23 rfl rfl
theorem dksJ22_afterNodeAccess_9 : cJ22_afterNodeAccess.data.toList.drop 206 = dktJ22_afterNodeAccess_9 := dk_seg dksJ22_afterNodeAccess_8 24 rfl rfl
theorem dksJ22_afterNodeAccess_10 : cJ22_afterNodeAccess.data.toList.drop 229 = dktJ22_afterNodeAccess_10 := dk_seg dksJ22_afterNodeAccess_9 23 rfl rfl
theorem dksJ22_afterNodeAccess_11 : cJ22_afterNodeAccess.data.toList.drop 252 = dktJ22_afterNodeAccess_11 := dk_seg dksJ22_afterNodeAccess_10 23 rfl rfl
theorem dJ22_afterNodeAccess_0 : decode cJ22_afterNodeAccess 0 = .ok (.aload_n 0, 1) := dk_42 (dk_at dksJ22_afterNodeAccess_0 0 rfl rfl)
theorem dJ22_afterNodeAccess_1 : decode cJ22_afterNodeAccess 1 = .ok (.getfield 1, 3) := dk_180 0 1 (dk_at dksJ22_afterNodeAccess_0 1 rfl rfl)
theorem dJ22_afterNodeAccess_4 : decode cJ22_afterNodeAccess 4 = .ok (.iconst 2, 1) := dk_5 (dk_at dksJ22_afterNodeAccess_0 4 rfl rfl)
theorem dJ22_afterNodeAccess_5 : decode cJ22_afterNodeAccess 5 = .ok (.if_icmp .eq 17, 3) := dk_159 0 17 (dk_at dksJ22_afterNodeAccess_0 5 rfl rfl)
theorem dJ22_afterNodeAccess_8 : decode cJ22_afterNodeAccess 8 = .ok (.aload_n 0, 1) := dk_42 (dk_at dksJ22_afterNodeAccess_0 8 rfl rfl)
theorem dJ22_afterNodeAccess_9 : decode cJ22_afterNodeAccess 9 = .ok (.getfield 1, 3) := dk_180 0 1 (dk_at dksJ22_afterNodeAccess_0 9 rfl rfl)
theorem dJ22_afterNodeAccess_12 : decode cJ22_afterNodeAccess 12 = .ok (.ifCond .ne 129, 3) := dk_154 0 129 (dk_at dksJ22_afterNodeAccess_0 12 rfl rfl)
theorem dJ22_afterNodeAccess_15 : decode cJ22_afterNodeAccess 15 = .ok (.aload_n 0, 1) := dk_42 (dk_at dksJ22_afterNodeAccess_0 15 rfl rfl)
theorem dJ22_afterNodeAccess_16 : decode cJ22_afterNodeAccess 16 = .ok (.getfield 64, 3) := dk_180 0 64 (dk_at dksJ22_afterNodeAccess_0 16 rfl rfl)
theorem dJ22_afterNodeAccess_19 : decode cJ22_afterNodeAccess 19 = .ok (.ifCond .eq 122, 3) := dk_153 0 122 (dk_at dksJ22_afterNodeAccess_0 19 rfl rfl)
theorem dJ22_afterNodeAccess_22 : decode cJ22_afterNodeAccess 22 = .ok (.aload_n 0, 1) := dk_42 (dk_at dksJ22_afterNodeAccess_0 22 rfl rfl)
theorem dJ22_afterNodeAccess_23 : decode cJ22_afterNodeAccess 23 = .ok (.getfield 11, 3) := dk_180 0 11 (dk_at dksJ22_afterNodeAccess_1 0 rfl rfl)
theorem dJ22_afterNodeAccess_26 : decode cJ22_afterNodeAccess 26 = .ok (.dup, 1) := dk_89 (dk_at dksJ22_afterNodeAccess_1 3 rfl rfl)
theorem dJ22_afterNodeAccess_27 : decode cJ22_afterNodeAccess 27 = .ok (.astore_n 2, 1) := dk_77 (dk_at dksJ22_afterNodeAccess_1 4 rfl rfl)
theorem dJ22_afterNodeAccess_28 : decode cJ22_afterNodeAccess 28 = .ok (.aload_n 1, 1) := dk_43 (dk_at dksJ22_afterNodeAccess_1 5 rfl rfl)
theorem dJ22_afterNodeAccess_29 : decode cJ22_afterNodeAccess 29 = .ok (.if_acmp .eq 112, 3) := dk_165 0 112 (dk_at dksJ22_afterNodeAccess_1 6 rfl rfl)
theorem dJ22_afterNodeAccess_32 : decode cJ22_afterNodeAccess 32 = .ok (.aload_n 1, 1) := dk_43 (dk_at dksJ22_afterNodeAccess_1 9 rfl rfl)
theorem dJ22_afterNodeAccess_33 : decode cJ22_afterNodeAccess 33 = .ok (.checkcast 15, 3) := dk_192 0 15 (dk_at dksJ22_afterNodeAccess_1 10 rfl rfl)
theorem dJ22_afterNodeAccess_36 : decode cJ22_afterNodeAccess 36 = .ok (.astore 4, 2) := dk_58 4 (dk_at dksJ22_afterNodeAccess_1 13 rfl rfl)
theorem dJ22_afterNodeAccess_38 : decode cJ22_afterNodeAccess 38 = .ok (.aload 4, 2) := dk_25 4 (dk_at dksJ22_afterNodeAccess_1 15 rfl rfl)
theorem dJ22_afterNodeAccess_40 : decode cJ22_afterNodeAccess 40 = .ok (.getfield 19, 3) := dk_180 0 19 (dk_at dksJ22_afterNodeAccess_1 17 rfl rfl)
theorem dJ22_afterNodeAccess_43 : decode cJ22_afterNodeAccess 43 = .ok (.astore 5, 2) := dk_58 5 (dk_at dksJ22_afterNodeAccess_1 20 rfl rfl)
theorem dJ22_afterNodeAccess_45 : decode cJ22_afterNodeAccess 45 = .ok (.aload 4, 2) := dk_25 4 (dk_at dksJ22_afterNodeAccess_1 22 rfl rfl)
theorem dJ22_afterNodeAccess_47 : decode cJ22_afterNodeAccess 47 = .ok (.getfield 14, 3) := dk_180 0 14 (dk_at dksJ22_afterNodeAccess_2 0 rfl rfl)
theorem dJ22_afterNodeAccess_50 : decode cJ22_afterNodeAccess 50 = .ok (.astore 6, 2) := dk_58 6 (dk_at dksJ22_afterNodeAccess_2 3 rfl rfl)
theorem dJ22_afterNodeAccess_52 : decode cJ22_afterNodeAccess 52 = .ok (.aload 4, 2) := dk_25 4 (dk_at dksJ22_afterNodeAccess_2 5 rfl rfl)
theorem dJ22_afterNodeAccess_54 : decode cJ22_afterNodeAccess 54 = .ok (.aconst_null, 1) := dk_1 (dk_at dksJ22_afterNodeAccess_2 7 rfl rfl)
theorem dJ22_afterNodeAccess_55 : decode cJ22_afterNodeAccess 55 = .ok (.putfield 14, 3) := dk_181 0 14 (dk_at dksJ22_afterNodeAccess_2 8 rfl rfl)
theorem dJ22_afterNodeAccess_58 : decode cJ22_afterNodeAccess 58 = .ok (.aload 5, 2) := dk_25 5 (dk_at dksJ22_afterNodeAccess_2 11 rfl rfl)
theorem dJ22_afterNodeAccess_60 : decode cJ22_afterNodeAccess 60 = .ok (.ifnonnull 12, 3) := dk_199 0 12 (dk_at dksJ22_afterNodeAccess_2 13 rfl rfl)
theorem dJ22_afterNodeAccess_63 : decode cJ22_afterNodeAccess 63 = .ok (.aload_n 0, 1) := dk_42 (dk_at dksJ22_afterNodeAccess_2 16 rfl rfl)
theorem dJ22_afterNodeAccess_64 : decode cJ22_afterNodeAccess 64 = .ok (.aload 6, 2) := dk_25 6 (dk_at dksJ22_afterNodeAccess_2 17 rfl rfl)
theorem dJ22_afterNodeAccess_66 : decode cJ22_afterNodeAccess 66 = .ok (.putfield 7, 3) := dk_181 0 7 (dk_at dksJ22_afterNodeAccess_2 19 rfl rfl)
theorem dJ22_afterNodeAccess_69 : decode cJ22_afterNodeAccess 69 = .ok (.goto 10, 3) := dk_167 0 10 (dk_at dksJ22_afterNodeAccess_3 0 rfl rfl)
theorem dJ22_afterNodeAccess_72 : decode cJ22_afterNodeAccess 72 = .ok (.aload 5, 2) := dk_25 5 (dk_at dksJ22_afterNodeAccess_3 3 rfl rfl)
theorem dJ22_afterNodeAccess_74 : decode cJ22_afterNodeAccess 74 = .ok (.aload 6, 2) := dk_25 6 (dk_at dksJ22_afterNodeAccess_3 5 rfl rfl)
theorem dJ22_afterNodeAccess_76 : decode cJ22_afterNodeAccess 76 = .ok (.putfield 14, 3) := dk_181 0 14 (dk_at dksJ22_afterNodeAccess_3 7 rfl rfl)
theorem dJ22_afterNodeAccess_79 : decode cJ22_afterNodeAccess 79 = .ok (.aload 6, 2) := dk_25 6 (dk_at dksJ22_afterNodeAccess_3 10 rfl rfl)
theorem dJ22_afterNodeAccess_81 : decode cJ22_afterNodeAccess 81 = .ok (.ifnull 13, 3) := dk_198 0 13 (dk_at dksJ22_afterNodeAccess_3 12 rfl rfl)
theorem dJ22_afterNodeAccess_84 : decode cJ22_afterNodeAccess 84 = .ok (.aload 6, 2) := dk_25 6 (dk_at dksJ22_afterNodeAccess_3 15 rfl rfl)
theorem dJ22_afterNodeAccess_86 : decode cJ22_afterNodeAccess 86 = .ok (.aload 5, 2) := dk_25 5 (dk_at dksJ22_afterNodeAccess_3 17 rfl rfl)
theorem dJ22_afterNodeAccess_88 : decode cJ22_afterNodeAccess 88 = .ok (.putfield 19, 3) := dk_181 0 19 (dk_at dksJ22_afterNodeAccess_3 19 rfl rfl)
theorem dJ22_afterNodeAccess_91 : decode cJ22_afterNodeAccess 91 = .ok (.goto 6, 3) := dk_167 0 6 (dk_at dksJ22_afterNodeAccess_4 0 rfl rfl)
theorem dJ22_afterNodeAccess_94 : decode cJ22_afterNodeAccess 94 = .ok (.aload 5, 2) := dk_25 5 (dk_at dksJ22_afterNodeAccess_4 3 rfl rfl)
theorem dJ22_afterNodeAccess_96 : decode cJ22_afterNodeAccess 96 = .ok (.astore_n 2, 1) := dk_77 (dk_at dksJ22_afterNodeAccess_4 5 rfl rfl)
theorem dJ22_afterNodeAccess_97 : decode cJ22_afterNodeAccess 97 = .ok (.aload_n 2, 1) := dk_44 (dk_at dksJ22_afterNodeAccess_4 6 rfl rfl)
theorem dJ22_afterNodeAccess_98 : decode cJ22_afterNodeAccess 98 = .ok (.ifnonnull 12, 3) := dk_199 0 12 (dk_at dksJ22_afterNodeAccess_4 7 rfl rfl)
theorem dJ22_afterNodeAccess_101 : decode cJ22_afterNodeAccess 101 = .ok (.aload_n 0, 1) := dk_42 (dk_at dksJ22_afterNodeAccess_4 10 rfl rfl)
theorem dJ22_afterNodeAccess_102 : decode cJ22_afterNodeAccess 102 = .ok (.aload 4, 2) := dk_25 4 (dk_at dksJ22_afterNodeAccess_4 11 rfl rfl)
theorem dJ22_afterNodeAccess_104 : decode cJ22_afterNodeAccess 104 = .ok (.putfield 7, 3) := dk_181 0 7 (dk_at dksJ22_afterNodeAccess_4 13 rfl rfl)
theorem dJ22_afterNodeAccess_107 : decode cJ22_afterNodeAccess 107 = .ok (.goto 15, 3) := dk_167 0 15 (dk_at dksJ22_afterNodeAccess_4 16 rfl rfl)
theorem dJ22_afterNodeAccess_110 : decode cJ22_afterNodeAccess 110 = .ok (.aload 4, 2) := dk_25 4 (dk_at dksJ22_afterNodeAccess_4 19 rfl rfl)
theorem dJ22_afterNodeAccess_112 : decode cJ22_afterNodeAccess 112 = .ok (.aload_n 2, 1) := dk_44 (dk_at dksJ22_afterNodeAccess_4 21 rfl rfl)
theorem dJ22_afterNodeAccess_113 : decode cJ22_afterNodeAccess 113 = .ok (.putfield 19, 3) := dk_181 0 19 (dk_at dksJ22_afterNodeAccess_5 0 rfl rfl)
theorem dJ22_afterNodeAccess_116 : decode cJ22_afterNodeAccess 116 = .ok (.aload_n 2, 1) := dk_44 (dk_at dksJ22_afterNodeAccess_5 3 rfl rfl)
theorem dJ22_afterNodeAccess_117 : decode cJ22_afterNodeAccess 117 = .ok (.aload 4, 2) := dk_25 4 (dk_at dksJ22_afterNodeAccess_5 4 rfl rfl)
theorem dJ22_afterNodeAccess_119 : decode cJ22_afterNodeAccess 119 = .ok (.putfield 14, 3) := dk_181 0 14 (dk_at dksJ22_afterNodeAccess_5 6 rfl rfl)
theorem dJ22_afterNodeAccess_122 : decode cJ22_afterNodeAccess 122 = .ok (.aload_n 0, 1) := dk_42 (dk_at dksJ22_afterNodeAccess_5 9 rfl rfl)
theorem dJ22_afterNodeAccess_123 : decode cJ22_afterNodeAccess 123 = .ok (.aload 4, 2) := dk_25 4 (dk_at dksJ22_afterNodeAccess_5 10 rfl rfl)
theorem dJ22_afterNodeAccess_125 : decode cJ22_afterNodeAccess 125 = .ok (.putfield 11, 3) := dk_181 0 11 (dk_at dksJ22_afterNodeAccess_5 12 rfl rfl)
theorem dJ22_afterNodeAccess_128 : decode cJ22_afterNodeAccess 128 = .ok (.aload_n 0, 1) := dk_42 (dk_at dksJ22_afterNodeAccess_5 15 rfl rfl)
theorem dJ22_afterNodeAccess_129 : decode cJ22_afterNodeAccess 129 = .ok (.dup, 1) := dk_89 (dk_at dksJ22_afterNodeAccess_5 16 rfl rfl)
theorem dJ22_afterNodeAccess_130 : decode cJ22_afterNodeAccess 130 = .ok (.getfield 68, 3) := dk_180 0 68 (dk_at dksJ22_afterNodeAccess_5 17 rfl rfl)
theorem dJ22_afterNodeAccess_133 : decode cJ22_afterNodeAccess 133 = .ok (.iconst 1, 1) := dk_4 (dk_at dksJ22_afterNodeAccess_5 20 rfl rfl)
theorem dJ22_afterNodeAccess_134 : decode cJ22_afterNodeAccess 134 = .ok (.iadd, 1) := dk_96 (dk_at dksJ22_afterNodeAccess_5 21 rfl rfl)
theorem dJ22_afterNodeAccess_135 : decode cJ22_afterNodeAccess 135 = .ok (.putfield 68, 3) := dk_181 0 68 (dk_at dksJ22_afterNodeAccess_6 0 rfl rfl)
theorem dJ22_afterNodeAccess_138 : decode cJ22_afterNodeAccess 138 = .ok (.goto 127, 3) := dk_167 0 127 (dk_at dksJ22_afterNodeAccess_6 3 rfl rfl)
theorem dJ22_afterNodeAccess_141 : decode cJ22_afterNodeAccess 141 = .ok (.aload_n 0, 1) := dk_42 (dk_at dksJ22_afterNodeAccess_6 6 rfl rfl)
theorem dJ22_afterNodeAccess_142 : decode cJ22_afterNodeAccess 142 = .ok (.getfield 1, 3) := dk_180 0 1 (dk_at dksJ22_afterNodeAccess_6 7 rfl rfl)
theorem dJ22_afterNodeAccess_145 : decode cJ22_afterNodeAccess 145 = .ok (.iconst 1, 1) := dk_4 (dk_at dksJ22_afterNodeAccess_6 10 rfl rfl)
theorem dJ22_afterNodeAccess_146 : decode cJ22_afterNodeAccess 146 = .ok (.if_icmp .ne 119, 3) := dk_160 0 119 (dk_at dksJ22_afterNodeAccess_6 11 rfl rfl)
theorem dJ22_afterNodeAccess_149 : decode cJ22_afterNodeAccess 149 = .ok (.aload_n 0, 1) := dk_42 (dk_at dksJ22_afterNodeAccess_6 14 rfl rfl)
theorem dJ22_afterNodeAccess_150 : decode cJ22_afterNodeAccess 150 = .ok (.getfield 7, 3) := dk_180 0 7 (dk_at dksJ22_afterNodeAccess_6 15 rfl rfl)
theorem dJ22_afterNodeAccess_153 : decode cJ22_afterNodeAccess 153 = .ok (.dup, 1) := dk_89 (dk_at dksJ22_afterNodeAccess_6 18 rfl rfl)
theorem dJ22_afterNodeAccess_154 : decode cJ22_afterNodeAccess 154 = .ok (.astore_n 3, 1) := dk_78 (dk_at dksJ22_afterNodeAccess_6 19 rfl rfl)
theorem dJ22_afterNodeAccess_155 : decode cJ22_afterNodeAccess 155 = .ok (.aload_n 1, 1) := dk_43 (dk_at dksJ22_afterNodeAccess_6 20 rfl rfl)
theorem dJ22_afterNodeAccess_156 : decode cJ22_afterNodeAccess 156 = .ok (.if_acmp .eq 109, 3) := dk_165 0 109 (dk_at dksJ22_afterNodeAccess_6 21 rfl rfl)
theorem dJ22_afterNodeAccess_159 : decode cJ22_afterNodeAccess 159 = .ok (.aload_n 1, 1) := dk_43 (dk_at dksJ22_afterNodeAccess_7 0 rfl rfl)
theorem dJ22_afterNodeAccess_160 : decode cJ22_afterNodeAccess 160 = .ok (.checkcast 15, 3) := dk_192 0 15 (dk_at dksJ22_afterNodeAccess_7 1 rfl rfl)
theorem dJ22_afterNodeAccess_163 : decode cJ22_afterNodeAccess 163 = .ok (.astore 4, 2) := dk_58 4 (dk_at dksJ22_afterNodeAccess_7 4 rfl rfl)
theorem dJ22_afterNodeAccess_165 : decode cJ22_afterNodeAccess 165 = .ok (.aload 4, 2) := dk_25 4 (dk_at dksJ22_afterNodeAccess_7 6 rfl rfl)
theorem dJ22_afterNodeAccess_167 : decode cJ22_afterNodeAccess 167 = .ok (.getfield 19, 3) := dk_180 0 19 (dk_at dksJ22_afterNodeAccess_7 8 rfl rfl)
theorem dJ22_afterNodeAccess_170 : decode cJ22_afterNodeAccess 170 = .ok (.astore 5, 2) := dk_58 5 (dk_at dksJ22_afterNodeAccess_7 11 rfl rfl)
theorem dJ22_afterNodeAccess_172 : decode cJ22_afterNodeAccess 172 = .ok (.aload 4, 2) := dk_25 4 (dk_at dksJ22_afterNodeAccess_7 13 rfl rfl)
theorem dJ22_afterNodeAccess_174 : decode cJ22_afterNodeAccess 174 = .ok (.getfield 14, 3) := dk_180 0 14 (dk_at dksJ22_afterNodeAccess_7 15 rfl rfl)
theorem dJ22_afterNodeAccess_177 : decode cJ22_afterNodeAccess 177 = .ok (.astore 6, 2) := dk_58 6 (dk_at dksJ22_afterNodeAccess_7 18 rfl rfl)
theorem dJ22_afterNodeAccess_179 : decode cJ22_afterNodeAccess 179 = .ok (.aload 4, 2) := dk_25 4 (dk_at dksJ22_afterNodeAccess_7 20 rfl rfl)
theorem dJ22_afterNodeAccess_181 : decode cJ22_afterNodeAccess 181 = .ok (.aconst_null, 1) := dk_1 (dk_at dksJ22_afterNodeAccess_7 22 rfl rfl)
theorem dJ22_afterNodeAccess_182 : decode cJ22_afterNodeAccess 182 = .ok (.putfield 19, 3) := dk_181 0 19 (dk_at dksJ22_afterNodeAccess_8 0 rfl rfl)
theorem dJ22_afterNodeAccess_185 : decode cJ22_afterNodeAccess 185 = .ok (.aload 6, 2) := dk_25 6 (dk_at dksJ22_afterNodeAccess_8 3 rfl rfl)
theorem dJ22_afterNodeAccess_187 : decode cJ22_afterNodeAccess 187 = .ok (.ifnonnull 12, 3) := dk_199 0 12 (dk_at dksJ22_afterNodeAccess_8 5 rfl rfl)
theorem dJ22_afterNodeAccess_190 : decode cJ22_afterNodeAccess 190 = .ok (.aload_n 0, 1) := dk_42 (dk_at dksJ22_afterNodeAccess_8 8 rfl rfl)
theorem dJ22_afterNodeAccess_191 : decode cJ22_afterNodeAccess 191 = .ok (.aload 5, 2) := dk_25 5 (dk_at dksJ22_afterNodeAccess_8 9 rfl rfl)
theorem dJ22_afterNodeAccess_193 : decode cJ22_afterNodeAccess 193 = .ok (.putfield 11, 3) := dk_181 0 11 (dk_at dksJ22_afterNodeAccess_8 11 rfl rfl)
theorem dJ22_afterNodeAccess_196 : decode cJ22_afterNodeAccess 196 = .ok (.goto 10, 3) := dk_167 0 10 (dk_at dksJ22_afterNodeAccess_8 14 rfl rfl)
theorem dJ22_afterNodeAccess_199 : decode cJ22_afterNodeAccess 199 = .ok (.aload 6, 2) := dk_25 6 (dk_at dksJ22_afterNodeAccess_8 17 rfl rfl)
theorem dJ22_afterNodeAccess_201 : decode cJ22_afterNodeAccess 201 = .ok (.aload 5, 2) := dk_25 5 (dk_at dksJ22_afterNodeAccess_8 19 rfl rfl)
theorem dJ22_afterNodeAccess_203 : decode cJ22_afterNodeAccess 203 = .ok (.putfield 19, 3) := dk_181 0 19 (dk_at dksJ22_afterNodeAccess_8 21 rfl rfl)
theorem dJ22_afterNodeAccess_206 : decode cJ22_afterNodeAccess 206 = .ok (.aload 5, 2) := dk_25 5 (dk_at dksJ22_afterNodeAccess_9 0 rfl rfl)
theorem dJ22_afterNodeAccess_208 : decode cJ22_afterNodeAccess 208 = .ok (.ifnull 13, 3) := dk_198 0 13 (dk_at dksJ22_afterNodeAccess_9 2 rfl rfl)
theorem dJ22_afterNodeAccess_211 : decode cJ22_afterNodeAccess 211 = .ok (.aload 5, 2) := dk_25 5 (dk_at dksJ22_afterNodeAccess_9 5 rfl rfl)
theorem dJ22_afterNodeAccess_213 : decode cJ22_afterNodeAccess 213 = .ok (.aload 6, 2) := dk_25 6 (dk_at dksJ22_afterNodeAccess_9 7 rfl rfl)
theorem dJ22_afterNodeAccess_215 : decode cJ22_afterNodeAccess 215 = .ok (.putfield 14, 3) := dk_181 0 14 (dk_at dksJ22_afterNodeAccess_9 9 rfl rfl)
theorem dJ22_afterNodeAccess_218 : decode cJ22_afterNodeAccess 218 = .ok (.goto 6, 3) := dk_167 0 6 (dk_at dksJ22_afterNodeAccess_9 12 rfl rfl)
theorem dJ22_afterNodeAccess_221 : decode cJ22_afterNodeAccess 221 = .ok (.aload 6, 2) := dk_25 6 (dk_at dksJ22_afterNodeAccess_9 15 rfl rfl)
theorem dJ22_afterNodeAccess_223 : decode cJ22_afterNodeAccess 223 = .ok (.astore_n 3, 1) := dk_78 (dk_at dksJ22_afterNodeAccess_9 17 rfl rfl)
theorem dJ22_afterNodeAccess_224 : decode cJ22_afterNodeAccess 224 = .ok (.aload_n 3, 1) := dk_45 (dk_at dksJ22_afterNodeAccess_9 18 rfl rfl)
theorem dJ22_afterNodeAccess_225 : decode cJ22_afterNodeAccess 225 = .ok (.ifnonnull 12, 3) := dk_199 0 12 (dk_at dksJ22_afterNodeAccess_9 19 rfl rfl)
theorem dJ22_afterNodeAccess_228 : decode cJ22_afterNodeAccess 228 = .ok (.aload_n 0, 1) := dk_42 (dk_at dksJ22_afterNodeAccess_9 22 rfl rfl)
theorem dJ22_afterNodeAccess_229 : decode cJ22_afterNodeAccess 229 = .ok (.aload 4, 2) := dk_25 4 (dk_at dksJ22_afterNodeAccess_10 0 rfl rfl)
theorem dJ22_afterNodeAccess_231 : decode cJ22_afterNodeAccess 231 = .ok (.putfield 11, 3) := dk_181 0 11 (dk_at dksJ22_afterNodeAccess_10 2 rfl rfl)
theorem dJ22_afterNodeAccess_234 : decode cJ22_afterNodeAccess 234 = .ok (.goto 15, 3) := dk_167 0 15 (dk_at dksJ22_afterNodeAccess_10 5 rfl rfl)
theorem dJ22_afterNodeAccess_237 : decode cJ22_afterNodeAccess 237 = .ok (.aload 4, 2) := dk_25 4 (dk_at dksJ22_afterNodeAccess_10 8 rfl rfl)
theorem dJ22_afterNodeAccess_239 : decode cJ22_afterNodeAccess 239 = .ok (.aload_n 3, 1) := dk_45 (dk_at dksJ22_afterNodeAccess_10 10 rfl rfl)
theorem dJ22_afterNodeAccess_240 : decode cJ22_afterNodeAccess 240 = .ok (.putfield 14, 3) := dk_181 0 14 (dk_at dksJ22_afterNodeAccess_10 11 rfl rfl)
theorem dJ22_afterNodeAccess_243 : decode cJ22_afterNodeAccess 243 = .ok (.aload_n 3, 1) := dk_45 (dk_at dksJ22_afterNodeAccess_10 14 rfl rfl)
theorem dJ22_afterNodeAccess_244 : decode cJ22_afterNodeAccess 244 = .ok (.aload 4, 2) := dk_25 4 (dk_at dksJ22_afterNodeAccess_10 15 rfl rfl)
theorem dJ22_afterNodeAccess_246 : decode cJ22_afterNodeAccess 246 = .ok (.putfield 19, 3) := dk_181 0 19 (dk_at dksJ22_afterNodeAccess_10 17 rfl rfl)
theorem dJ22_afterNodeAccess_249 : decode cJ22_afterNodeAccess 249 = .ok (.aload_n 0, 1) := dk_42 (dk_at dksJ22_afterNodeAccess_10 20 rfl rfl)
theorem dJ22_afterNodeAccess_250 : decode cJ22_afterNodeAccess 250 = .ok (.aload 4, 2) := dk_25 4 (dk_at dksJ22_afterNodeAccess_10 21 rfl rfl)
theorem dJ22_afterNodeAccess_252 : decode cJ22_afterNodeAccess 252 = .ok (.putfield 7, 3) := dk_181 0 7 (dk_at dksJ22_afterNodeAccess_11 0 rfl rfl)
theorem dJ22_afterNodeAccess_255 : decode cJ22_afterNodeAccess 255 = .ok (.aload_n 0, 1) := dk_42 (dk_at dksJ22_afterNodeAccess_11 3 rfl rfl)
theorem dJ22_afterNodeAccess_256 : decode cJ22_afterNodeAccess 256 = .ok (.dup, 1) := dk_89 (dk_at dksJ22_afterNodeAccess_11 4 rfl rfl)
theorem dJ22_afterNodeAccess_257 : decode cJ22_afterNodeAccess 257 = .ok (.getfield 68, 3) := dk_180 0 68 (dk_at dksJ22_afterNodeAccess_11 5 rfl rfl)
theorem dJ22_afterNodeAccess_260 : decode cJ22_afterNodeAccess 260 = .ok (.iconst 1, 1) := dk_4 (dk_at dksJ22_afterNodeAccess_11 8 rfl rfl)
theorem dJ22_afterNodeAccess_261 : decode cJ22_afterNodeAccess 261 = .ok (.iadd, 1) := dk_96 (dk_at dksJ22_afterNodeAccess_11 9 rfl rfl)
theorem dJ22_afterNodeAccess_262 : decode cJ22_afterNodeAccess 262 = .ok (.putfield 68, 3) := dk_181 0 68 (dk_at dksJ22_afterNodeAccess_11 10 rfl rfl)
theorem dJ22_afterNodeAccess_265 : decode cJ22_afterNodeAccess 265 = .ok (.return_, 1) := dk_177 (dk_at dksJ22_afterNodeAccess_11 13 rfl rfl)
abbrev cJ22_afterNodeInsertion : ByteArray := prog_55_method_9_code
def yJ22_afterNodeInsertion : MethodName := ⟨RJ22, "afterNodeInsertion", "(Z)V"⟩
def dkwJ22_afterNodeInsertion_1 : List UInt8 := [180, 0, 39, 78, 42, 45, 184, 0, 57, 45, 1, 3, 4, 182, 0, 60, 87, 177]
abbrev dktJ22_afterNodeInsertion_1 : List UInt8 := dkwJ22_afterNodeInsertion_1 ++ []
def dkwJ22_afterNodeInsertion_0 : List UInt8 := [27, 153, 0, 38, 42, 180, 0, 7, 89, 77, 198, 0, 29, 42, 44, 182, 0, 53, 153, 0, 21, 44]
abbrev dktJ22_afterNodeInsertion_0 : List UInt8 := dkwJ22_afterNodeInsertion_0 ++ dktJ22_afterNodeInsertion_1
theorem dksJ22_afterNodeInsertion_0 : cJ22_afterNodeInsertion.data.toList.drop 0 = dktJ22_afterNodeInsertion_0 := by decide +kernel
theorem dksJ22_afterNodeInsertion_1 : cJ22_afterNodeInsertion.data.toList.drop 22 = dktJ22_afterNodeInsertion_1 := dk_seg dksJ22_afterNodeInsertion_0 22 rfl rfl
theorem dJ22_afterNodeInsertion_0 : decode cJ22_afterNodeInsertion 0 = .ok (.iload_n 1, 1) := dk_27 (dk_at dksJ22_afterNodeInsertion_0 0 rfl rfl)
theorem dJ22_afterNodeInsertion_1 : decode cJ22_afterNodeInsertion 1 = .ok (.ifCond .eq 38, 3) := dk_153 0 38 (dk_at dksJ22_afterNodeInsertion_0 1 rfl rfl)
theorem dJ22_afterNodeInsertion_4 : decode cJ22_afterNodeInsertion 4 = .ok (.aload_n 0, 1) := dk_42 (dk_at dksJ22_afterNodeInsertion_0 4 rfl rfl)
theorem dJ22_afterNodeInsertion_5 : decode cJ22_afterNodeInsertion 5 = .ok (.getfield 7, 3) := dk_180 0 7 (dk_at dksJ22_afterNodeInsertion_0 5 rfl rfl)
theorem dJ22_afterNodeInsertion_8 : decode cJ22_afterNodeInsertion 8 = .ok (.dup, 1) := dk_89 (dk_at dksJ22_afterNodeInsertion_0 8 rfl rfl)
theorem dJ22_afterNodeInsertion_9 : decode cJ22_afterNodeInsertion 9 = .ok (.astore_n 2, 1) := dk_77 (dk_at dksJ22_afterNodeInsertion_0 9 rfl rfl)
theorem dJ22_afterNodeInsertion_10 : decode cJ22_afterNodeInsertion 10 = .ok (.ifnull 29, 3) := dk_198 0 29 (dk_at dksJ22_afterNodeInsertion_0 10 rfl rfl)
theorem dJ22_afterNodeInsertion_13 : decode cJ22_afterNodeInsertion 13 = .ok (.aload_n 0, 1) := dk_42 (dk_at dksJ22_afterNodeInsertion_0 13 rfl rfl)
theorem dJ22_afterNodeInsertion_14 : decode cJ22_afterNodeInsertion 14 = .ok (.aload_n 2, 1) := dk_44 (dk_at dksJ22_afterNodeInsertion_0 14 rfl rfl)
theorem dJ22_afterNodeInsertion_15 : decode cJ22_afterNodeInsertion 15 = .ok (.invokevirtual 53, 3) := dk_182 0 53 (dk_at dksJ22_afterNodeInsertion_0 15 rfl rfl)
theorem dJ22_afterNodeInsertion_18 : decode cJ22_afterNodeInsertion 18 = .ok (.ifCond .eq 21, 3) := dk_153 0 21 (dk_at dksJ22_afterNodeInsertion_0 18 rfl rfl)
theorem dJ22_afterNodeInsertion_21 : decode cJ22_afterNodeInsertion 21 = .ok (.aload_n 2, 1) := dk_44 (dk_at dksJ22_afterNodeInsertion_0 21 rfl rfl)
theorem dJ22_afterNodeInsertion_22 : decode cJ22_afterNodeInsertion 22 = .ok (.getfield 39, 3) := dk_180 0 39 (dk_at dksJ22_afterNodeInsertion_1 0 rfl rfl)
theorem dJ22_afterNodeInsertion_25 : decode cJ22_afterNodeInsertion 25 = .ok (.astore_n 3, 1) := dk_78 (dk_at dksJ22_afterNodeInsertion_1 3 rfl rfl)
theorem dJ22_afterNodeInsertion_26 : decode cJ22_afterNodeInsertion 26 = .ok (.aload_n 0, 1) := dk_42 (dk_at dksJ22_afterNodeInsertion_1 4 rfl rfl)
theorem dJ22_afterNodeInsertion_27 : decode cJ22_afterNodeInsertion 27 = .ok (.aload_n 3, 1) := dk_45 (dk_at dksJ22_afterNodeInsertion_1 5 rfl rfl)
theorem dJ22_afterNodeInsertion_28 : decode cJ22_afterNodeInsertion 28 = .ok (.invokestatic 57, 3) := dk_184 0 57 (dk_at dksJ22_afterNodeInsertion_1 6 rfl rfl)
theorem dJ22_afterNodeInsertion_31 : decode cJ22_afterNodeInsertion 31 = .ok (.aload_n 3, 1) := dk_45 (dk_at dksJ22_afterNodeInsertion_1 9 rfl rfl)
theorem dJ22_afterNodeInsertion_32 : decode cJ22_afterNodeInsertion 32 = .ok (.aconst_null, 1) := dk_1 (dk_at dksJ22_afterNodeInsertion_1 10 rfl rfl)
theorem dJ22_afterNodeInsertion_33 : decode cJ22_afterNodeInsertion 33 = .ok (.iconst 0, 1) := dk_3 (dk_at dksJ22_afterNodeInsertion_1 11 rfl rfl)
theorem dJ22_afterNodeInsertion_34 : decode cJ22_afterNodeInsertion 34 = .ok (.iconst 1, 1) := dk_4 (dk_at dksJ22_afterNodeInsertion_1 12 rfl rfl)
theorem dJ22_afterNodeInsertion_35 : decode cJ22_afterNodeInsertion 35 = .ok (.invokevirtual 60, 3) := dk_182 0 60 (dk_at dksJ22_afterNodeInsertion_1 13 rfl rfl)
theorem dJ22_afterNodeInsertion_38 : decode cJ22_afterNodeInsertion 38 = .ok (.pop, 1) := dk_87 (dk_at dksJ22_afterNodeInsertion_1 16 rfl rfl)
theorem dJ22_afterNodeInsertion_39 : decode cJ22_afterNodeInsertion 39 = .ok (.return_, 1) := dk_177 (dk_at dksJ22_afterNodeInsertion_1 17 rfl rfl)
abbrev cJ22_removeEldestEntry : ByteArray := prog_55_method_23_code
def yJ22_removeEldestEntry : MethodName := ⟨RJ22, "removeEldestEntry", "(Ljava/util/Map$Entry;)Z"⟩
theorem dJ22_removeEldestEntry_0 : decode cJ22_removeEldestEntry 0 = .ok (.iconst 0, 1) := by decide +kernel
theorem dJ22_removeEldestEntry_1 : decode cJ22_removeEldestEntry 1 = .ok (.ireturn, 1) := by decide +kernel
abbrev cJ22_init_2 : ByteArray := prog_55_method_16_code
def yJ22_init_2 : MethodName := ⟨RJ22, "<init>", "()V"⟩
def dkwJ22_init_2_0 : List UInt8 := [42, 183, 0, 87, 42, 3, 181, 0, 1, 42, 3, 181, 0, 64, 177]
abbrev dktJ22_init_2_0 : List UInt8 := dkwJ22_init_2_0 ++ []
theorem dksJ22_init_2_0 : cJ22_init_2.data.toList.drop 0 = dktJ22_init_2_0 := by decide +kernel
theorem dJ22_init_2_0 : decode cJ22_init_2 0 = .ok (.aload_n 0, 1) := dk_42 (dk_at dksJ22_init_2_0 0 rfl rfl)
theorem dJ22_init_2_1 : decode cJ22_init_2 1 = .ok (.invokespecial 87, 3) := dk_183 0 87 (dk_at dksJ22_init_2_0 1 rfl rfl)
theorem dJ22_init_2_4 : decode cJ22_init_2 4 = .ok (.aload_n 0, 1) := dk_42 (dk_at dksJ22_init_2_0 4 rfl rfl)
theorem dJ22_init_2_5 : decode cJ22_init_2 5 = .ok (.iconst 0, 1) := dk_3 (dk_at dksJ22_init_2_0 5 rfl rfl)
theorem dJ22_init_2_6 : decode cJ22_init_2 6 = .ok (.putfield 1, 3) := dk_181 0 1 (dk_at dksJ22_init_2_0 6 rfl rfl)
theorem dJ22_init_2_9 : decode cJ22_init_2 9 = .ok (.aload_n 0, 1) := dk_42 (dk_at dksJ22_init_2_0 9 rfl rfl)
theorem dJ22_init_2_10 : decode cJ22_init_2 10 = .ok (.iconst 0, 1) := dk_3 (dk_at dksJ22_init_2_0 10 rfl rfl)
theorem dJ22_init_2_11 : decode cJ22_init_2 11 = .ok (.putfield 64, 3) := dk_181 0 64 (dk_at dksJ22_init_2_0 11 rfl rfl)
theorem dJ22_init_2_14 : decode cJ22_init_2 14 = .ok (.return_, 1) := dk_177 (dk_at dksJ22_init_2_0 14 rfl rfl)
abbrev cJ22_get : ByteArray := prog_55_method_20_code
def yJ22_get : MethodName := ⟨RJ22, "get", "(Ljava/lang/Object;)Ljava/lang/Object;"⟩
def dkwJ22_get_1 : List UInt8 := [44, 180, 0, 107, 176]
abbrev dktJ22_get_1 : List UInt8 := dkwJ22_get_1 ++ []
def dkwJ22_get_0 : List UInt8 := [42, 43, 182, 0, 99, 89, 77, 199, 0, 5, 1, 176, 42, 180, 0, 64, 153, 0, 8, 42, 44, 182, 0, 103]
abbrev dktJ22_get_0 : List UInt8 := dkwJ22_get_0 ++ dktJ22_get_1
theorem dksJ22_get_0 : cJ22_get.data.toList.drop 0 = dktJ22_get_0 := by decide +kernel
theorem dksJ22_get_1 : cJ22_get.data.toList.drop 24 = dktJ22_get_1 := dk_seg dksJ22_get_0 24 rfl rfl
theorem dJ22_get_0 : decode cJ22_get 0 = .ok (.aload_n 0, 1) := dk_42 (dk_at dksJ22_get_0 0 rfl rfl)
theorem dJ22_get_1 : decode cJ22_get 1 = .ok (.aload_n 1, 1) := dk_43 (dk_at dksJ22_get_0 1 rfl rfl)
theorem dJ22_get_2 : decode cJ22_get 2 = .ok (.invokevirtual 99, 3) := dk_182 0 99 (dk_at dksJ22_get_0 2 rfl rfl)
theorem dJ22_get_5 : decode cJ22_get 5 = .ok (.dup, 1) := dk_89 (dk_at dksJ22_get_0 5 rfl rfl)
theorem dJ22_get_6 : decode cJ22_get 6 = .ok (.astore_n 2, 1) := dk_77 (dk_at dksJ22_get_0 6 rfl rfl)
theorem dJ22_get_7 : decode cJ22_get 7 = .ok (.ifnonnull 5, 3) := dk_199 0 5 (dk_at dksJ22_get_0 7 rfl rfl)
theorem dJ22_get_10 : decode cJ22_get 10 = .ok (.aconst_null, 1) := dk_1 (dk_at dksJ22_get_0 10 rfl rfl)
theorem dJ22_get_11 : decode cJ22_get 11 = .ok (.areturn, 1) := dk_176 (dk_at dksJ22_get_0 11 rfl rfl)
theorem dJ22_get_12 : decode cJ22_get 12 = .ok (.aload_n 0, 1) := dk_42 (dk_at dksJ22_get_0 12 rfl rfl)
theorem dJ22_get_13 : decode cJ22_get 13 = .ok (.getfield 64, 3) := dk_180 0 64 (dk_at dksJ22_get_0 13 rfl rfl)
theorem dJ22_get_16 : decode cJ22_get 16 = .ok (.ifCond .eq 8, 3) := dk_153 0 8 (dk_at dksJ22_get_0 16 rfl rfl)
theorem dJ22_get_19 : decode cJ22_get 19 = .ok (.aload_n 0, 1) := dk_42 (dk_at dksJ22_get_0 19 rfl rfl)
theorem dJ22_get_20 : decode cJ22_get 20 = .ok (.aload_n 2, 1) := dk_44 (dk_at dksJ22_get_0 20 rfl rfl)
theorem dJ22_get_21 : decode cJ22_get 21 = .ok (.invokevirtual 103, 3) := dk_182 0 103 (dk_at dksJ22_get_0 21 rfl rfl)
theorem dJ22_get_24 : decode cJ22_get 24 = .ok (.aload_n 2, 1) := dk_44 (dk_at dksJ22_get_1 0 rfl rfl)
theorem dJ22_get_25 : decode cJ22_get 25 = .ok (.getfield 107, 3) := dk_180 0 107 (dk_at dksJ22_get_1 1 rfl rfl)
theorem dJ22_get_28 : decode cJ22_get 28 = .ok (.areturn, 1) := dk_176 (dk_at dksJ22_get_1 4 rfl rfl)
abbrev cJ22_keySet : ByteArray := prog_55_method_24_code
def yJ22_keySet : MethodName := ⟨RJ22, "keySet", "()Ljava/util/Set;"⟩
theorem dJ22_keySet_0 : decode cJ22_keySet 0 = .ok (.aload_n 0, 1) := by decide +kernel
theorem dJ22_keySet_1 : decode cJ22_keySet 1 = .ok (.invokevirtual 113, 3) := by decide +kernel
theorem dJ22_keySet_4 : decode cJ22_keySet 4 = .ok (.areturn, 1) := by decide +kernel
abbrev cJ22_sequencedKeySet : ByteArray := prog_55_method_25_code
def yJ22_sequencedKeySet : MethodName := ⟨RJ22, "sequencedKeySet", "()Ljava/util/SequencedSet;"⟩
def dkwJ22_sequencedKeySet_1 : List UInt8 := [44, 176, 43, 192, 0, 126, 176]
abbrev dktJ22_sequencedKeySet_1 : List UInt8 := dkwJ22_sequencedKeySet_1 ++ []
def dkwJ22_sequencedKeySet_0 : List UInt8 := [42, 180, 0, 117, 76, 43, 199, 0, 20, 187, 0, 121, 89, 42, 3, 183, 0, 123, 77, 42, 44, 181, 0, 117]
abbrev dktJ22_sequencedKeySet_0 : List UInt8 := dkwJ22_sequencedKeySet_0 ++ dktJ22_sequencedKeySet_1
theorem dksJ22_sequencedKeySet_0 : cJ22_sequencedKeySet.data.toList.drop 0 = dktJ22_sequencedKeySet_0 := by decide +kernel
theorem dksJ22_sequencedKeySet_1 : cJ22_sequencedKeySet.data.toList.drop 24 = dktJ22_sequencedKeySet_1 := dk_seg dksJ22_sequencedKeySet_0 24 rfl rfl
theorem dJ22_sequencedKeySet_0 : decode cJ22_sequencedKeySet 0 = .ok (.aload_n 0, 1) := dk_42 (dk_at dksJ22_sequencedKeySet_0 0 rfl rfl)
theorem dJ22_sequencedKeySet_1 : decode cJ22_sequencedKeySet 1 = .ok (.getfield 117, 3) := dk_180 0 117 (dk_at dksJ22_sequencedKeySet_0 1 rfl rfl)
theorem dJ22_sequencedKeySet_4 : decode cJ22_sequencedKeySet 4 = .ok (.astore_n 1, 1) := dk_76 (dk_at dksJ22_sequencedKeySet_0 4 rfl rfl)
theorem dJ22_sequencedKeySet_5 : decode cJ22_sequencedKeySet 5 = .ok (.aload_n 1, 1) := dk_43 (dk_at dksJ22_sequencedKeySet_0 5 rfl rfl)
theorem dJ22_sequencedKeySet_6 : decode cJ22_sequencedKeySet 6 = .ok (.ifnonnull 20, 3) := dk_199 0 20 (dk_at dksJ22_sequencedKeySet_0 6 rfl rfl)
theorem dJ22_sequencedKeySet_9 : decode cJ22_sequencedKeySet 9 = .ok (.new 121, 3) := dk_187 0 121 (dk_at dksJ22_sequencedKeySet_0 9 rfl rfl)
theorem dJ22_sequencedKeySet_12 : decode cJ22_sequencedKeySet 12 = .ok (.dup, 1) := dk_89 (dk_at dksJ22_sequencedKeySet_0 12 rfl rfl)
theorem dJ22_sequencedKeySet_13 : decode cJ22_sequencedKeySet 13 = .ok (.aload_n 0, 1) := dk_42 (dk_at dksJ22_sequencedKeySet_0 13 rfl rfl)
theorem dJ22_sequencedKeySet_14 : decode cJ22_sequencedKeySet 14 = .ok (.iconst 0, 1) := dk_3 (dk_at dksJ22_sequencedKeySet_0 14 rfl rfl)
theorem dJ22_sequencedKeySet_15 : decode cJ22_sequencedKeySet 15 = .ok (.invokespecial 123, 3) := dk_183 0 123 (dk_at dksJ22_sequencedKeySet_0 15 rfl rfl)
theorem dJ22_sequencedKeySet_18 : decode cJ22_sequencedKeySet 18 = .ok (.astore_n 2, 1) := dk_77 (dk_at dksJ22_sequencedKeySet_0 18 rfl rfl)
theorem dJ22_sequencedKeySet_19 : decode cJ22_sequencedKeySet 19 = .ok (.aload_n 0, 1) := dk_42 (dk_at dksJ22_sequencedKeySet_0 19 rfl rfl)
theorem dJ22_sequencedKeySet_20 : decode cJ22_sequencedKeySet 20 = .ok (.aload_n 2, 1) := dk_44 (dk_at dksJ22_sequencedKeySet_0 20 rfl rfl)
theorem dJ22_sequencedKeySet_21 : decode cJ22_sequencedKeySet 21 = .ok (.putfield 117, 3) := dk_181 0 117 (dk_at dksJ22_sequencedKeySet_0 21 rfl rfl)
theorem dJ22_sequencedKeySet_24 : decode cJ22_sequencedKeySet 24 = .ok (.aload_n 2, 1) := dk_44 (dk_at dksJ22_sequencedKeySet_1 0 rfl rfl)
theorem dJ22_sequencedKeySet_25 : decode cJ22_sequencedKeySet 25 = .ok (.areturn, 1) := dk_176 (dk_at dksJ22_sequencedKeySet_1 1 rfl rfl)
theorem dJ22_sequencedKeySet_26 : decode cJ22_sequencedKeySet 26 = .ok (.aload_n 1, 1) := dk_43 (dk_at dksJ22_sequencedKeySet_1 2 rfl rfl)
theorem dJ22_sequencedKeySet_27 : decode cJ22_sequencedKeySet 27 = .ok (.checkcast 126, 3) := dk_192 0 126 (dk_at dksJ22_sequencedKeySet_1 3 rfl rfl)
theorem dJ22_sequencedKeySet_30 : decode cJ22_sequencedKeySet 30 = .ok (.areturn, 1) := dk_176 (dk_at dksJ22_sequencedKeySet_1 6 rfl rfl)
theorem q117 : (Jvm.Cond.initialized "java/util/LinkedHashMap") ∈ lw_all := lw_g (lw_at lw_m1 30 rfl) rfl
theorem q478 : (Jvm.Cond.selects "java/util/LinkedHashMap" ({ cls := "java/lang/Object", name := "getClass", desc := "()Ljava/lang/Class;" } : Jvm.MethodName) ({ cls := "java/lang/Object", name := "getClass", desc := "()Ljava/lang/Class;" } : Jvm.MethodName)) ∈ lw_all := lw_g (lw_at lw_m2 151 rfl) rfl
theorem q791 : (Jvm.Cond.instantiable "java/util/LinkedHashMap" (12 : Nat)) ∈ lw_all := lw_g (lw_at lw_m3 224 rfl) rfl
theorem q793 : (Jvm.Cond.instanceMethod ({ cls := "java/util/LinkedHashMap", name := "<init>", desc := "(IF)V" } : Jvm.MethodName)) ∈ lw_all := lw_g (lw_at lw_m3 226 rfl) rfl
theorem q794 : (Jvm.Cond.code ({ cls := "java/util/LinkedHashMap", name := "<init>", desc := "(IF)V" } : Jvm.MethodName) prog_55_method_14_code (3 : Nat) (Option.none : Option Jvm.ClassFile.FieldType)) ∈ lw_all := lw_g (lw_at lw_m3 227 rfl) rfl
theorem q795 : (Jvm.Cond.methodLink "java/util/LinkedHashMap" (81 : Nat) ({ cls := "java/util/HashMap", name := "<init>", desc := "(IF)V" } : Jvm.MethodName)) ∈ lw_all := lw_g (lw_at lw_m3 228 rfl) rfl
theorem q813 : (Jvm.Cond.fieldLink "java/util/LinkedHashMap" (7 : Nat) "java/util/LinkedHashMap" "head" "Ljava/util/LinkedHashMap$Entry;") ∈ lw_all := lw_g (lw_at lw_m4 6 rfl) rfl
theorem q816 : (Jvm.Cond.fieldLink "java/util/LinkedHashMap" (11 : Nat) "java/util/LinkedHashMap" "tail" "Ljava/util/LinkedHashMap$Entry;") ∈ lw_all := lw_g (lw_at lw_m4 9 rfl) rfl
theorem q817 : (Jvm.Cond.fieldLink "java/util/LinkedHashMap" (64 : Nat) "java/util/LinkedHashMap" "accessOrder" "Z") ∈ lw_all := lw_g (lw_at lw_m4 10 rfl) rfl
theorem q818 : (Jvm.Cond.fieldLink "java/util/LinkedHashMap" (1 : Nat) "java/util/LinkedHashMap" "putMode" "I") ∈ lw_all := lw_g (lw_at lw_m4 11 rfl) rfl
theorem q824 : (Jvm.Cond.sameField "java/util/LinkedHashMap" "java/util/HashMap" "size" "I") ∈ lw_all := lw_g (lw_at lw_m4 17 rfl) rfl
theorem q828 : (Jvm.Cond.sameField "java/util/LinkedHashMap" "java/util/HashMap" "modCount" "I") ∈ lw_all := lw_g (lw_at lw_m4 21 rfl) rfl
theorem q829 : (Jvm.Cond.fieldLink "java/util/LinkedHashMap" (68 : Nat) "java/util/LinkedHashMap" "modCount" "I") ∈ lw_all := lw_g (lw_at lw_m4 22 rfl) rfl
theorem q835 : (Jvm.Cond.fieldLink "java/util/LinkedHashMap" (117 : Nat) "java/util/LinkedHashMap" "keySet" "Ljava/util/Set;") ∈ lw_all := lw_g (lw_at lw_m4 28 rfl) rfl
theorem q836 : (Jvm.Cond.sameField "java/util/LinkedHashMap" "java/util/AbstractMap" "keySet" "Ljava/util/Set;") ∈ lw_all := lw_g (lw_at lw_m4 29 rfl) rfl
theorem q837 : (Jvm.Cond.lays "java/util/LinkedHashMap" "java/util/LinkedHashMap" "head" "Ljava/util/LinkedHashMap$Entry;") ∈ lw_all := lw_g (lw_at lw_m4 30 rfl) rfl
theorem q838 : (Jvm.Cond.soleField "java/util/LinkedHashMap" "head") ∈ lw_all := lw_g (lw_at lw_m4 31 rfl) rfl
theorem q839 : (Jvm.Cond.lays "java/util/LinkedHashMap" "java/util/LinkedHashMap" "tail" "Ljava/util/LinkedHashMap$Entry;") ∈ lw_all := lw_g (lw_at lw_m4 32 rfl) rfl
theorem q840 : (Jvm.Cond.soleField "java/util/LinkedHashMap" "tail") ∈ lw_all := lw_g (lw_at lw_m4 33 rfl) rfl
theorem q841 : (Jvm.Cond.laysFinal "java/util/LinkedHashMap" "java/util/LinkedHashMap" "accessOrder" "Z") ∈ lw_all := lw_g (lw_at lw_m4 34 rfl) rfl
theorem q842 : (Jvm.Cond.soleField "java/util/LinkedHashMap" "accessOrder") ∈ lw_all := lw_g (lw_at lw_m4 35 rfl) rfl
theorem q843 : (Jvm.Cond.lays "java/util/LinkedHashMap" "java/util/LinkedHashMap" "putMode" "I") ∈ lw_all := lw_g (lw_at lw_m4 36 rfl) rfl
theorem q844 : (Jvm.Cond.soleField "java/util/LinkedHashMap" "putMode") ∈ lw_all := lw_g (lw_at lw_m4 37 rfl) rfl
theorem q845 : (Jvm.Cond.lays "java/util/LinkedHashMap" "java/util/HashMap" "table" "[Ljava/util/HashMap$Node;") ∈ lw_all := lw_g (lw_at lw_m4 38 rfl) rfl
theorem q847 : (Jvm.Cond.lays "java/util/LinkedHashMap" "java/util/HashMap" "entrySet" "Ljava/util/Set;") ∈ lw_all := lw_g (lw_at lw_m4 40 rfl) rfl
theorem q849 : (Jvm.Cond.lays "java/util/LinkedHashMap" "java/util/HashMap" "size" "I") ∈ lw_all := lw_g (lw_at lw_m4 42 rfl) rfl
theorem q851 : (Jvm.Cond.lays "java/util/LinkedHashMap" "java/util/HashMap" "modCount" "I") ∈ lw_all := lw_g (lw_at lw_m4 44 rfl) rfl
theorem q853 : (Jvm.Cond.lays "java/util/LinkedHashMap" "java/util/HashMap" "threshold" "I") ∈ lw_all := lw_g (lw_at lw_m4 46 rfl) rfl
theorem q855 : (Jvm.Cond.laysFinal "java/util/LinkedHashMap" "java/util/HashMap" "loadFactor" "F") ∈ lw_all := lw_g (lw_at lw_m4 48 rfl) rfl
theorem q857 : (Jvm.Cond.lays "java/util/LinkedHashMap" "java/util/AbstractMap" "keySet" "Ljava/util/Set;") ∈ lw_all := lw_g (lw_at lw_m4 50 rfl) rfl
theorem q859 : (Jvm.Cond.lays "java/util/LinkedHashMap" "java/util/AbstractMap" "values" "Ljava/util/Collection;") ∈ lw_all := lw_g (lw_at lw_m4 52 rfl) rfl
theorem q861 : (Jvm.Cond.superclass "java/util/LinkedHashMap" "java/util/HashMap") ∈ lw_all := lw_g (lw_at lw_m4 54 rfl) rfl
theorem q951 : (Jvm.Cond.selects "java/util/LinkedHashMap" ({ cls := "java/util/HashMap", name := "size", desc := "()I" } : Jvm.MethodName) ({ cls := "java/util/HashMap", name := "size", desc := "()I" } : Jvm.MethodName)) ∈ lw_all := lw_g (lw_at lw_m4 144 rfl) rfl
theorem q975 : (Jvm.Cond.selects "java/util/LinkedHashMap" ({ cls := "java/util/HashMap", name := "put", desc := "(Ljava/lang/Object;Ljava/lang/Object;)Ljava/lang/Object;" } : Jvm.MethodName) ({ cls := "java/util/HashMap", name := "put", desc := "(Ljava/lang/Object;Ljava/lang/Object;)Ljava/lang/Object;" } : Jvm.MethodName)) ∈ lw_all := lw_g (lw_at lw_m4 168 rfl) rfl
theorem q1074 : (Jvm.Cond.selects "java/util/LinkedHashMap" ({ cls := "java/util/HashMap", name := "putVal", desc := "(ILjava/lang/Object;Ljava/lang/Object;ZZ)Ljava/lang/Object;" } : Jvm.MethodName) ({ cls := "java/util/HashMap", name := "putVal", desc := "(ILjava/lang/Object;Ljava/lang/Object;ZZ)Ljava/lang/Object;" } : Jvm.MethodName)) ∈ lw_all := lw_g (lw_at lw_m5 27 rfl) rfl
theorem q1079 : (Jvm.Cond.selects "java/util/LinkedHashMap" ({ cls := "java/util/HashMap", name := "resize", desc := "()[Ljava/util/HashMap$Node;" } : Jvm.MethodName) ({ cls := "java/util/HashMap", name := "resize", desc := "()[Ljava/util/HashMap$Node;" } : Jvm.MethodName)) ∈ lw_all := lw_g (lw_at lw_m5 32 rfl) rfl
theorem q1098 : (Jvm.Cond.selects "java/util/LinkedHashMap" ({ cls := "java/util/HashMap", name := "replacementNode", desc := "(Ljava/util/HashMap$Node;Ljava/util/HashMap$Node;)Ljava/util/HashMap$Node;" } : Jvm.MethodName) ({ cls := "java/util/LinkedHashMap", name := "replacementNode", desc := "(Ljava/util/HashMap$Node;Ljava/util/HashMap$Node;)Ljava/util/HashMap$Node;" } : Jvm.MethodName)) ∈ lw_all := lw_g (lw_at lw_m5 51 rfl) rfl
theorem q1099 : (Jvm.Cond.instanceMethod ({ cls := "java/util/LinkedHashMap", name := "replacementNode", desc := "(Ljava/util/HashMap$Node;Ljava/util/HashMap$Node;)Ljava/util/HashMap$Node;" } : Jvm.MethodName)) ∈ lw_all := lw_g (lw_at lw_m5 52 rfl) rfl
theorem q1100 : (Jvm.Cond.code ({ cls := "java/util/LinkedHashMap", name := "replacementNode", desc := "(Ljava/util/HashMap$Node;Ljava/util/HashMap$Node;)Ljava/util/HashMap$Node;" } : Jvm.MethodName) prog_55_method_5_code (5 : Nat) (Option.some (Jvm.ClassFile.FieldType.object "java/util/HashMap$Node"))) ∈ lw_all := lw_g (lw_at lw_m5 53 rfl) rfl
theorem q1101 : (Jvm.Cond.classLink "java/util/LinkedHashMap" (15 : Nat) "java/util/LinkedHashMap$Entry") ∈ lw_all := lw_g (lw_at lw_m5 54 rfl) rfl
theorem q1103 : (Jvm.Cond.methodLink "java/util/LinkedHashMap" (28 : Nat) ({ cls := "java/util/LinkedHashMap$Entry", name := "<init>", desc := "(ILjava/lang/Object;Ljava/lang/Object;Ljava/util/HashMap$Node;)V" } : Jvm.MethodName)) ∈ lw_all := lw_g (lw_at lw_m5 56 rfl) rfl
theorem q1110 : (Jvm.Cond.fieldLink "java/util/LinkedHashMap" (19 : Nat) "java/util/LinkedHashMap$Entry" "before" "Ljava/util/LinkedHashMap$Entry;") ∈ lw_all := lw_g (lw_at lw_m5 63 rfl) rfl
theorem q1112 : (Jvm.Cond.fieldLink "java/util/LinkedHashMap" (14 : Nat) "java/util/LinkedHashMap$Entry" "after" "Ljava/util/LinkedHashMap$Entry;") ∈ lw_all := lw_g (lw_at lw_m5 65 rfl) rfl
theorem q1117 : (Jvm.Cond.fieldLink "java/util/LinkedHashMap" (36 : Nat) "java/util/LinkedHashMap$Entry" "hash" "I") ∈ lw_all := lw_g (lw_at lw_m5 70 rfl) rfl
theorem q1124 : (Jvm.Cond.fieldLink "java/util/LinkedHashMap" (39 : Nat) "java/util/LinkedHashMap$Entry" "key" "Ljava/lang/Object;") ∈ lw_all := lw_g (lw_at lw_m5 77 rfl) rfl
theorem q1128 : (Jvm.Cond.fieldLink "java/util/LinkedHashMap" (43 : Nat) "java/util/LinkedHashMap$Entry" "value" "Ljava/lang/Object;") ∈ lw_all := lw_g (lw_at lw_m5 81 rfl) rfl
theorem q1131 : (Jvm.Cond.fieldLink "java/util/LinkedHashMap" (107 : Nat) "java/util/HashMap$Node" "value" "Ljava/lang/Object;") ∈ lw_all := lw_g (lw_at lw_m5 84 rfl) rfl
theorem q1152 : (Jvm.Cond.methodLink "java/util/LinkedHashMap" (46 : Nat) ({ cls := "java/util/LinkedHashMap", name := "transferLinks", desc := "(Ljava/util/LinkedHashMap$Entry;Ljava/util/LinkedHashMap$Entry;)V" } : Jvm.MethodName)) ∈ lw_all := lw_g (lw_at lw_m5 105 rfl) rfl
theorem q1153 : (Jvm.Cond.privateMethod ({ cls := "java/util/LinkedHashMap", name := "transferLinks", desc := "(Ljava/util/LinkedHashMap$Entry;Ljava/util/LinkedHashMap$Entry;)V" } : Jvm.MethodName)) ∈ lw_tbl := lw_at lw_m5 106 rfl
theorem q1154 : (Jvm.Cond.instanceMethod ({ cls := "java/util/LinkedHashMap", name := "transferLinks", desc := "(Ljava/util/LinkedHashMap$Entry;Ljava/util/LinkedHashMap$Entry;)V" } : Jvm.MethodName)) ∈ lw_all := lw_g (lw_at lw_m5 107 rfl) rfl
theorem q1155 : (Jvm.Cond.code ({ cls := "java/util/LinkedHashMap", name := "transferLinks", desc := "(Ljava/util/LinkedHashMap$Entry;Ljava/util/LinkedHashMap$Entry;)V" } : Jvm.MethodName) prog_55_method_2_code (5 : Nat) (Option.none : Option Jvm.ClassFile.FieldType)) ∈ lw_all := lw_g (lw_at lw_m5 108 rfl) rfl
theorem q1395 : (Jvm.Cond.selects "java/util/LinkedHashMap" ({ cls := "java/util/HashMap", name := "newNode", desc := "(ILjava/lang/Object;Ljava/lang/Object;Ljava/util/HashMap$Node;)Ljava/util/HashMap$Node;" } : Jvm.MethodName) ({ cls := "java/util/LinkedHashMap", name := "newNode", desc := "(ILjava/lang/Object;Ljava/lang/Object;Ljava/util/HashMap$Node;)Ljava/util/HashMap$Node;" } : Jvm.MethodName)) ∈ lw_all := lw_g (lw_at lw_m6 108 rfl) rfl
theorem q1396 : (Jvm.Cond.instanceMethod ({ cls := "java/util/LinkedHashMap", name := "newNode", desc := "(ILjava/lang/Object;Ljava/lang/Object;Ljava/util/HashMap$Node;)Ljava/util/HashMap$Node;" } : Jvm.MethodName)) ∈ lw_all := lw_g (lw_at lw_m6 109 rfl) rfl
theorem q1397 : (Jvm.Cond.code ({ cls := "java/util/LinkedHashMap", name := "newNode", desc := "(ILjava/lang/Object;Ljava/lang/Object;Ljava/util/HashMap$Node;)Ljava/util/HashMap$Node;" } : Jvm.MethodName) prog_55_method_4_code (6 : Nat) (Option.some (Jvm.ClassFile.FieldType.object "java/util/HashMap$Node"))) ∈ lw_all := lw_g (lw_at lw_m6 110 rfl) rfl
theorem q1398 : (Jvm.Cond.methodLink "java/util/LinkedHashMap" (32 : Nat) ({ cls := "java/util/LinkedHashMap", name := "linkNodeAtEnd", desc := "(Ljava/util/LinkedHashMap$Entry;)V" } : Jvm.MethodName)) ∈ lw_all := lw_g (lw_at lw_m6 111 rfl) rfl
theorem q1399 : (Jvm.Cond.privateMethod ({ cls := "java/util/LinkedHashMap", name := "linkNodeAtEnd", desc := "(Ljava/util/LinkedHashMap$Entry;)V" } : Jvm.MethodName)) ∈ lw_tbl := lw_at lw_m6 112 rfl
theorem q1400 : (Jvm.Cond.instanceMethod ({ cls := "java/util/LinkedHashMap", name := "linkNodeAtEnd", desc := "(Ljava/util/LinkedHashMap$Entry;)V" } : Jvm.MethodName)) ∈ lw_all := lw_g (lw_at lw_m6 113 rfl) rfl
theorem q1401 : (Jvm.Cond.code ({ cls := "java/util/LinkedHashMap", name := "linkNodeAtEnd", desc := "(Ljava/util/LinkedHashMap$Entry;)V" } : Jvm.MethodName) prog_55_method_1_code (3 : Nat) (Option.none : Option Jvm.ClassFile.FieldType)) ∈ lw_all := lw_g (lw_at lw_m6 114 rfl) rfl
theorem q1453 : (Jvm.Cond.selects "java/util/LinkedHashMap" ({ cls := "java/util/HashMap", name := "newTreeNode", desc := "(ILjava/lang/Object;Ljava/lang/Object;Ljava/util/HashMap$Node;)Ljava/util/HashMap$TreeNode;" } : Jvm.MethodName) ({ cls := "java/util/LinkedHashMap", name := "newTreeNode", desc := "(ILjava/lang/Object;Ljava/lang/Object;Ljava/util/HashMap$Node;)Ljava/util/HashMap$TreeNode;" } : Jvm.MethodName)) ∈ lw_all := lw_g (lw_at lw_m6 166 rfl) rfl
theorem q1454 : (Jvm.Cond.instanceMethod ({ cls := "java/util/LinkedHashMap", name := "newTreeNode", desc := "(ILjava/lang/Object;Ljava/lang/Object;Ljava/util/HashMap$Node;)Ljava/util/HashMap$TreeNode;" } : Jvm.MethodName)) ∈ lw_all := lw_g (lw_at lw_m6 167 rfl) rfl
theorem q1455 : (Jvm.Cond.code ({ cls := "java/util/LinkedHashMap", name := "newTreeNode", desc := "(ILjava/lang/Object;Ljava/lang/Object;Ljava/util/HashMap$Node;)Ljava/util/HashMap$TreeNode;" } : Jvm.MethodName) prog_55_method_6_code (6 : Nat) (Option.some (Jvm.ClassFile.FieldType.object "java/util/HashMap$TreeNode"))) ∈ lw_all := lw_g (lw_at lw_m6 168 rfl) rfl
theorem q1456 : (Jvm.Cond.classLink "java/util/LinkedHashMap" (50 : Nat) "java/util/HashMap$TreeNode") ∈ lw_all := lw_g (lw_at lw_m6 169 rfl) rfl
theorem q1458 : (Jvm.Cond.methodLink "java/util/LinkedHashMap" (52 : Nat) ({ cls := "java/util/HashMap$TreeNode", name := "<init>", desc := "(ILjava/lang/Object;Ljava/lang/Object;Ljava/util/HashMap$Node;)V" } : Jvm.MethodName)) ∈ lw_all := lw_g (lw_at lw_m6 171 rfl) rfl
theorem q1489 : (Jvm.Cond.selects "java/util/LinkedHashMap" ({ cls := "java/util/HashMap", name := "treeifyBin", desc := "([Ljava/util/HashMap$Node;I)V" } : Jvm.MethodName) ({ cls := "java/util/HashMap", name := "treeifyBin", desc := "([Ljava/util/HashMap$Node;I)V" } : Jvm.MethodName)) ∈ lw_all := lw_g (lw_at lw_m6 202 rfl) rfl
theorem q1494 : (Jvm.Cond.selects "java/util/LinkedHashMap" ({ cls := "java/util/HashMap", name := "replacementTreeNode", desc := "(Ljava/util/HashMap$Node;Ljava/util/HashMap$Node;)Ljava/util/HashMap$TreeNode;" } : Jvm.MethodName) ({ cls := "java/util/LinkedHashMap", name := "replacementTreeNode", desc := "(Ljava/util/HashMap$Node;Ljava/util/HashMap$Node;)Ljava/util/HashMap$TreeNode;" } : Jvm.MethodName)) ∈ lw_all := lw_g (lw_at lw_m6 207 rfl) rfl
theorem q1495 : (Jvm.Cond.instanceMethod ({ cls := "java/util/LinkedHashMap", name := "replacementTreeNode", desc := "(Ljava/util/HashMap$Node;Ljava/util/HashMap$Node;)Ljava/util/HashMap$TreeNode;" } : Jvm.MethodName)) ∈ lw_all := lw_g (lw_at lw_m6 208 rfl) rfl
theorem q1496 : (Jvm.Cond.code ({ cls := "java/util/LinkedHashMap", name := "replacementTreeNode", desc := "(Ljava/util/HashMap$Node;Ljava/util/HashMap$Node;)Ljava/util/HashMap$TreeNode;" } : Jvm.MethodName) prog_55_method_7_code (5 : Nat) (Option.some (Jvm.ClassFile.FieldType.object "java/util/HashMap$TreeNode"))) ∈ lw_all := lw_g (lw_at lw_m6 209 rfl) rfl
theorem q1502 : (Jvm.Cond.selects "java/util/LinkedHashMap" ({ cls := "java/util/HashMap", name := "afterNodeAccess", desc := "(Ljava/util/HashMap$Node;)V" } : Jvm.MethodName) ({ cls := "java/util/LinkedHashMap", name := "afterNodeAccess", desc := "(Ljava/util/HashMap$Node;)V" } : Jvm.MethodName)) ∈ lw_all := lw_g (lw_at lw_m6 215 rfl) rfl
theorem q1503 : (Jvm.Cond.instanceMethod ({ cls := "java/util/LinkedHashMap", name := "afterNodeAccess", desc := "(Ljava/util/HashMap$Node;)V" } : Jvm.MethodName)) ∈ lw_all := lw_g (lw_at lw_m6 216 rfl) rfl
theorem q1504 : (Jvm.Cond.code ({ cls := "java/util/LinkedHashMap", name := "afterNodeAccess", desc := "(Ljava/util/HashMap$Node;)V" } : Jvm.MethodName) prog_55_method_10_code (7 : Nat) (Option.none : Option Jvm.ClassFile.FieldType)) ∈ lw_all := lw_g (lw_at lw_m6 217 rfl) rfl
theorem q1509 : (Jvm.Cond.selects "java/util/LinkedHashMap" ({ cls := "java/util/HashMap", name := "afterNodeInsertion", desc := "(Z)V" } : Jvm.MethodName) ({ cls := "java/util/LinkedHashMap", name := "afterNodeInsertion", desc := "(Z)V" } : Jvm.MethodName)) ∈ lw_all := lw_g (lw_at lw_m6 222 rfl) rfl
theorem q1510 : (Jvm.Cond.instanceMethod ({ cls := "java/util/LinkedHashMap", name := "afterNodeInsertion", desc := "(Z)V" } : Jvm.MethodName)) ∈ lw_all := lw_g (lw_at lw_m6 223 rfl) rfl
theorem q1511 : (Jvm.Cond.code ({ cls := "java/util/LinkedHashMap", name := "afterNodeInsertion", desc := "(Z)V" } : Jvm.MethodName) prog_55_method_9_code (4 : Nat) (Option.none : Option Jvm.ClassFile.FieldType)) ∈ lw_all := lw_g (lw_at lw_m6 224 rfl) rfl
theorem q1512 : (Jvm.Cond.methodLink "java/util/LinkedHashMap" (53 : Nat) ({ cls := "java/util/LinkedHashMap", name := "removeEldestEntry", desc := "(Ljava/util/Map$Entry;)Z" } : Jvm.MethodName)) ∈ lw_all := lw_g (lw_at lw_m6 225 rfl) rfl
theorem q1513 : (Jvm.Cond.instanceMethod ({ cls := "java/util/LinkedHashMap", name := "removeEldestEntry", desc := "(Ljava/util/Map$Entry;)Z" } : Jvm.MethodName)) ∈ lw_all := lw_g (lw_at lw_m6 226 rfl) rfl
theorem q1514 : (Jvm.Cond.selects "java/util/LinkedHashMap" ({ cls := "java/util/LinkedHashMap", name := "removeEldestEntry", desc := "(Ljava/util/Map$Entry;)Z" } : Jvm.MethodName) ({ cls := "java/util/LinkedHashMap", name := "removeEldestEntry", desc := "(Ljava/util/Map$Entry;)Z" } : Jvm.MethodName)) ∈ lw_all := lw_g (lw_at lw_m6 227 rfl) rfl
theorem q1515 : (Jvm.Cond.code ({ cls := "java/util/LinkedHashMap", name := "removeEldestEntry", desc := "(Ljava/util/Map$Entry;)Z" } : Jvm.MethodName) prog_55_method_23_code (2 : Nat) (Option.some Jvm.ClassFile.FieldType.boolean)) ∈ lw_all := lw_g (lw_at lw_m6 228 rfl) rfl
theorem q1531 : (Jvm.Cond.selects "java/util/LinkedHashMap" ({ cls := "java/util/HashMap", name := "containsKey", desc := "(Ljava/lang/Object;)Z" } : Jvm.MethodName) ({ cls := "java/util/HashMap", name := "containsKey", desc := "(Ljava/lang/Object;)Z" } : Jvm.MethodName)) ∈ lw_all := lw_g (lw_at lw_m7 4 rfl) rfl
theorem q1536 : (Jvm.Cond.selects "java/util/LinkedHashMap" ({ cls := "java/util/HashMap", name := "getNode", desc := "(Ljava/lang/Object;)Ljava/util/HashMap$Node;" } : Jvm.MethodName) ({ cls := "java/util/HashMap", name := "getNode", desc := "(Ljava/lang/Object;)Ljava/util/HashMap$Node;" } : Jvm.MethodName)) ∈ lw_all := lw_g (lw_at lw_m7 9 rfl) rfl
theorem q1613 : (Jvm.Cond.instanceMethod ({ cls := "java/util/LinkedHashMap", name := "<init>", desc := "()V" } : Jvm.MethodName)) ∈ lw_all := lw_g (lw_at lw_m7 86 rfl) rfl
theorem q1614 : (Jvm.Cond.code ({ cls := "java/util/LinkedHashMap", name := "<init>", desc := "()V" } : Jvm.MethodName) prog_55_method_16_code (1 : Nat) (Option.none : Option Jvm.ClassFile.FieldType)) ∈ lw_all := lw_g (lw_at lw_m7 87 rfl) rfl
theorem q1615 : (Jvm.Cond.methodLink "java/util/LinkedHashMap" (87 : Nat) ({ cls := "java/util/HashMap", name := "<init>", desc := "()V" } : Jvm.MethodName)) ∈ lw_all := lw_g (lw_at lw_m7 88 rfl) rfl
theorem q1620 : (Jvm.Cond.sameMethod "java/util/LinkedHashMap" "java/util/HashMap" "containsKey" "(Ljava/lang/Object;)Z") ∈ lw_all := lw_g (lw_at lw_m7 93 rfl) rfl
theorem q1622 : (Jvm.Cond.selects "java/util/LinkedHashMap" ({ cls := "java/util/LinkedHashMap", name := "containsKey", desc := "(Ljava/lang/Object;)Z" } : Jvm.MethodName) ({ cls := "java/util/HashMap", name := "containsKey", desc := "(Ljava/lang/Object;)Z" } : Jvm.MethodName)) ∈ lw_all := lw_g (lw_at lw_m7 95 rfl) rfl
theorem q1643 : (Jvm.Cond.sameMethod "java/util/LinkedHashMap" "java/util/HashMap" "put" "(Ljava/lang/Object;Ljava/lang/Object;)Ljava/lang/Object;") ∈ lw_all := lw_g (lw_at lw_m7 116 rfl) rfl
theorem q1645 : (Jvm.Cond.selects "java/util/LinkedHashMap" ({ cls := "java/util/LinkedHashMap", name := "put", desc := "(Ljava/lang/Object;Ljava/lang/Object;)Ljava/lang/Object;" } : Jvm.MethodName) ({ cls := "java/util/HashMap", name := "put", desc := "(Ljava/lang/Object;Ljava/lang/Object;)Ljava/lang/Object;" } : Jvm.MethodName)) ∈ lw_all := lw_g (lw_at lw_m7 118 rfl) rfl
theorem q1652 : (Jvm.Cond.instanceMethod ({ cls := "java/util/LinkedHashMap", name := "get", desc := "(Ljava/lang/Object;)Ljava/lang/Object;" } : Jvm.MethodName)) ∈ lw_all := lw_g (lw_at lw_m7 125 rfl) rfl
theorem q1653 : (Jvm.Cond.selects "java/util/LinkedHashMap" ({ cls := "java/util/LinkedHashMap", name := "get", desc := "(Ljava/lang/Object;)Ljava/lang/Object;" } : Jvm.MethodName) ({ cls := "java/util/LinkedHashMap", name := "get", desc := "(Ljava/lang/Object;)Ljava/lang/Object;" } : Jvm.MethodName)) ∈ lw_all := lw_g (lw_at lw_m7 126 rfl) rfl
theorem q1654 : (Jvm.Cond.code ({ cls := "java/util/LinkedHashMap", name := "get", desc := "(Ljava/lang/Object;)Ljava/lang/Object;" } : Jvm.MethodName) prog_55_method_20_code (3 : Nat) (Option.some (Jvm.ClassFile.FieldType.object "java/lang/Object"))) ∈ lw_all := lw_g (lw_at lw_m7 127 rfl) rfl
theorem q1655 : (Jvm.Cond.methodLink "java/util/LinkedHashMap" (99 : Nat) ({ cls := "java/util/LinkedHashMap", name := "getNode", desc := "(Ljava/lang/Object;)Ljava/util/HashMap$Node;" } : Jvm.MethodName)) ∈ lw_all := lw_g (lw_at lw_m7 128 rfl) rfl
theorem q1656 : (Jvm.Cond.sameMethod "java/util/LinkedHashMap" "java/util/HashMap" "getNode" "(Ljava/lang/Object;)Ljava/util/HashMap$Node;") ∈ lw_all := lw_g (lw_at lw_m7 129 rfl) rfl
theorem q1658 : (Jvm.Cond.selects "java/util/LinkedHashMap" ({ cls := "java/util/LinkedHashMap", name := "getNode", desc := "(Ljava/lang/Object;)Ljava/util/HashMap$Node;" } : Jvm.MethodName) ({ cls := "java/util/HashMap", name := "getNode", desc := "(Ljava/lang/Object;)Ljava/util/HashMap$Node;" } : Jvm.MethodName)) ∈ lw_all := lw_g (lw_at lw_m7 131 rfl) rfl
theorem q1659 : (Jvm.Cond.methodLink "java/util/LinkedHashMap" (103 : Nat) ({ cls := "java/util/LinkedHashMap", name := "afterNodeAccess", desc := "(Ljava/util/HashMap$Node;)V" } : Jvm.MethodName)) ∈ lw_all := lw_g (lw_at lw_m7 132 rfl) rfl
theorem q1848 : (Jvm.Cond.instanceMethod ({ cls := "java/util/LinkedHashMap", name := "keySet", desc := "()Ljava/util/Set;" } : Jvm.MethodName)) ∈ lw_all := lw_g (lw_at lw_m8 81 rfl) rfl
theorem q1849 : (Jvm.Cond.selects "java/util/LinkedHashMap" ({ cls := "java/util/LinkedHashMap", name := "keySet", desc := "()Ljava/util/Set;" } : Jvm.MethodName) ({ cls := "java/util/LinkedHashMap", name := "keySet", desc := "()Ljava/util/Set;" } : Jvm.MethodName)) ∈ lw_all := lw_g (lw_at lw_m8 82 rfl) rfl
theorem q1850 : (Jvm.Cond.code ({ cls := "java/util/LinkedHashMap", name := "keySet", desc := "()Ljava/util/Set;" } : Jvm.MethodName) prog_55_method_24_code (1 : Nat) (Option.some (Jvm.ClassFile.FieldType.object "java/util/Set"))) ∈ lw_all := lw_g (lw_at lw_m8 83 rfl) rfl
theorem q1851 : (Jvm.Cond.methodLink "java/util/LinkedHashMap" (113 : Nat) ({ cls := "java/util/LinkedHashMap", name := "sequencedKeySet", desc := "()Ljava/util/SequencedSet;" } : Jvm.MethodName)) ∈ lw_all := lw_g (lw_at lw_m8 84 rfl) rfl
theorem q1852 : (Jvm.Cond.instanceMethod ({ cls := "java/util/LinkedHashMap", name := "sequencedKeySet", desc := "()Ljava/util/SequencedSet;" } : Jvm.MethodName)) ∈ lw_all := lw_g (lw_at lw_m8 85 rfl) rfl
theorem q1853 : (Jvm.Cond.selects "java/util/LinkedHashMap" ({ cls := "java/util/LinkedHashMap", name := "sequencedKeySet", desc := "()Ljava/util/SequencedSet;" } : Jvm.MethodName) ({ cls := "java/util/LinkedHashMap", name := "sequencedKeySet", desc := "()Ljava/util/SequencedSet;" } : Jvm.MethodName)) ∈ lw_all := lw_g (lw_at lw_m8 86 rfl) rfl
theorem q1854 : (Jvm.Cond.code ({ cls := "java/util/LinkedHashMap", name := "sequencedKeySet", desc := "()Ljava/util/SequencedSet;" } : Jvm.MethodName) prog_55_method_25_code (3 : Nat) (Option.some (Jvm.ClassFile.FieldType.object "java/util/SequencedSet"))) ∈ lw_all := lw_g (lw_at lw_m8 87 rfl) rfl
theorem q1855 : (Jvm.Cond.classLink "java/util/LinkedHashMap" (121 : Nat) "java/util/LinkedHashMap$LinkedKeySet") ∈ lw_all := lw_g (lw_at lw_m8 88 rfl) rfl
theorem q1857 : (Jvm.Cond.methodLink "java/util/LinkedHashMap" (123 : Nat) ({ cls := "java/util/LinkedHashMap$LinkedKeySet", name := "<init>", desc := "(Ljava/util/LinkedHashMap;Z)V" } : Jvm.MethodName)) ∈ lw_all := lw_g (lw_at lw_m8 90 rfl) rfl
theorem q1868 : (Jvm.Cond.classLink "java/util/LinkedHashMap" (126 : Nat) "java/util/SequencedSet") ∈ lw_all := lw_g (lw_at lw_m8 101 rfl) rfl
theorem q1944 : (Jvm.Cond.selects "java/util/LinkedHashMap" ({ cls := "java/util/HashMap", name := "keySet", desc := "()Ljava/util/Set;" } : Jvm.MethodName) ({ cls := "java/util/LinkedHashMap", name := "keySet", desc := "()Ljava/util/Set;" } : Jvm.MethodName)) ∈ lw_all := lw_g (lw_at lw_m8 177 rfl) rfl
theorem q2863 : (Jvm.Cond.selects "java/util/LinkedHashMap" ({ cls := "java/util/LinkedHashMap", name := "afterNodeAccess", desc := "(Ljava/util/HashMap$Node;)V" } : Jvm.MethodName) ({ cls := "java/util/LinkedHashMap", name := "afterNodeAccess", desc := "(Ljava/util/HashMap$Node;)V" } : Jvm.MethodName)) ∈ lw_all := lw_g (lw_at lw_m12 136 rfl) rfl
theorem q2899 : (Jvm.Cond.castable "java/util/LinkedHashMap" "java/lang/Object") ∈ lw_tbl := lw_at lw_m12 172 rfl
theorem in_J22 : ∀ w ∈ wsJ220, w ∈ lw_all := lw_in wsJ220 [845, 847, 849, 851, 853, 855, 857, 859, 837, 839, 841, 843] (by decide +kernel) (by decide +kernel)
/-! java/lang/Number -/
set_option maxRecDepth 100000
def RJ23 : String := "java/lang/Number"
abbrev cJ23_init : ByteArray := prog_25_method_1_code
def yJ23_init : MethodName := ⟨RJ23, "<init>", "()V"⟩
theorem dJ23_init_0 : decode cJ23_init 0 = .ok (.aload_n 0, 1) := by decide +kernel
theorem dJ23_init_1 : decode cJ23_init 1 = .ok (.invokespecial 1, 3) := by decide +kernel
theorem dJ23_init_4 : decode cJ23_init 4 = .ok (.return_, 1) := by decide +kernel
theorem q118 : (Jvm.Cond.initialized "java/lang/Number") ∈ lw_all := lw_g (lw_at lw_m1 31 rfl) rfl
theorem q1635 : (Jvm.Cond.instanceMethod ({ cls := "java/lang/Number", name := "<init>", desc := "()V" } : Jvm.MethodName)) ∈ lw_all := lw_g (lw_at lw_m7 108 rfl) rfl
theorem q1636 : (Jvm.Cond.code ({ cls := "java/lang/Number", name := "<init>", desc := "()V" } : Jvm.MethodName) prog_25_method_1_code (1 : Nat) (Option.none : Option Jvm.ClassFile.FieldType)) ∈ lw_all := lw_g (lw_at lw_m7 109 rfl) rfl
theorem q1637 : (Jvm.Cond.methodLink "java/lang/Number" (1 : Nat) ({ cls := "java/lang/Object", name := "<init>", desc := "()V" } : Jvm.MethodName)) ∈ lw_all := lw_g (lw_at lw_m7 110 rfl) rfl
/-! java/lang/Integer -/
set_option maxRecDepth 100000
def RJ25 : String := "java/lang/Integer"
def TJ25 : u_T := fun k => match k with
  | _ => ("java/lang/Integer", "value", "I", true)
def tyJ25 : Nat → FieldType := fun k => match k with
  | _ => .int
abbrev wsJ250 : List Cond := u_ws RJ25 TJ25 1
theorem nmJ25 : ∀ a, a < 1 → ∀ b, b < 1 → a ≠ b → (TJ25 a).2.1 ≠ (TJ25 b).2.1 := by decide +kernel
theorem tyJ25_ok : ∀ k, k < 1 → parseFieldDescriptor (TJ25 k).2.2.1 = some (tyJ25 k) := by decide +kernel
abbrev cJ25_numberOfLeadingZeros : ByteArray := prog_20_method_47_code
def yJ25_numberOfLeadingZeros : MethodName := ⟨RJ25, "numberOfLeadingZeros", "(I)I"⟩
def dkwJ25_numberOfLeadingZeros_3 : List UInt8 := [5, 124, 59, 27, 26, 4, 124, 100, 172]
abbrev dktJ25_numberOfLeadingZeros_3 : List UInt8 := dkwJ25_numberOfLeadingZeros_3 ++ []
def dkwJ25_numberOfLeadingZeros_2 : List UInt8 := [124, 59, 26, 16, 16, 161, 0, 10, 132, 1, 252, 26, 7, 124, 59, 26, 7, 161, 0, 10, 132, 1, 254, 26]
abbrev dktJ25_numberOfLeadingZeros_2 : List UInt8 := dkwJ25_numberOfLeadingZeros_2 ++ dktJ25_numberOfLeadingZeros_3
def dkwJ25_numberOfLeadingZeros_1 : List UInt8 := [161, 0, 11, 132, 1, 240, 26, 16, 16, 124, 59, 26, 17, 1, 0, 161, 0, 11, 132, 1, 248, 26, 16, 8]
abbrev dktJ25_numberOfLeadingZeros_1 : List UInt8 := dkwJ25_numberOfLeadingZeros_1 ++ dktJ25_numberOfLeadingZeros_2
def dkwJ25_numberOfLeadingZeros_0 : List UInt8 := [26, 157, 0, 14, 26, 154, 0, 8, 16, 32, 167, 0, 4, 3, 172, 16, 31, 60, 26, 19, 1, 8]
abbrev dktJ25_numberOfLeadingZeros_0 : List UInt8 := dkwJ25_numberOfLeadingZeros_0 ++ dktJ25_numberOfLeadingZeros_1
theorem dksJ25_numberOfLeadingZeros_0 : cJ25_numberOfLeadingZeros.data.toList.drop 0 = dktJ25_numberOfLeadingZeros_0 := by decide +kernel
theorem dksJ25_numberOfLeadingZeros_1 : cJ25_numberOfLeadingZeros.data.toList.drop 22 = dktJ25_numberOfLeadingZeros_1 := dk_seg dksJ25_numberOfLeadingZeros_0 22 rfl rfl
theorem dksJ25_numberOfLeadingZeros_2 : cJ25_numberOfLeadingZeros.data.toList.drop 46 = dktJ25_numberOfLeadingZeros_2 := dk_seg dksJ25_numberOfLeadingZeros_1 24 rfl rfl
theorem dksJ25_numberOfLeadingZeros_3 : cJ25_numberOfLeadingZeros.data.toList.drop 70 = dktJ25_numberOfLeadingZeros_3 := dk_seg dksJ25_numberOfLeadingZeros_2 24 rfl rfl
theorem dJ25_numberOfLeadingZeros_0 : decode cJ25_numberOfLeadingZeros 0 = .ok (.iload_n 0, 1) := dk_26 (dk_at dksJ25_numberOfLeadingZeros_0 0 rfl rfl)
theorem dJ25_numberOfLeadingZeros_1 : decode cJ25_numberOfLeadingZeros 1 = .ok (.ifCond .gt 14, 3) := dk_157 0 14 (dk_at dksJ25_numberOfLeadingZeros_0 1 rfl rfl)
theorem dJ25_numberOfLeadingZeros_4 : decode cJ25_numberOfLeadingZeros 4 = .ok (.iload_n 0, 1) := dk_26 (dk_at dksJ25_numberOfLeadingZeros_0 4 rfl rfl)
theorem dJ25_numberOfLeadingZeros_5 : decode cJ25_numberOfLeadingZeros 5 = .ok (.ifCond .ne 8, 3) := dk_154 0 8 (dk_at dksJ25_numberOfLeadingZeros_0 5 rfl rfl)
theorem dJ25_numberOfLeadingZeros_8 : decode cJ25_numberOfLeadingZeros 8 = .ok (.bipush 32, 2) := dk_16 32 (dk_at dksJ25_numberOfLeadingZeros_0 8 rfl rfl)
theorem dJ25_numberOfLeadingZeros_10 : decode cJ25_numberOfLeadingZeros 10 = .ok (.goto 4, 3) := dk_167 0 4 (dk_at dksJ25_numberOfLeadingZeros_0 10 rfl rfl)
theorem dJ25_numberOfLeadingZeros_13 : decode cJ25_numberOfLeadingZeros 13 = .ok (.iconst 0, 1) := dk_3 (dk_at dksJ25_numberOfLeadingZeros_0 13 rfl rfl)
theorem dJ25_numberOfLeadingZeros_14 : decode cJ25_numberOfLeadingZeros 14 = .ok (.ireturn, 1) := dk_172 (dk_at dksJ25_numberOfLeadingZeros_0 14 rfl rfl)
theorem dJ25_numberOfLeadingZeros_15 : decode cJ25_numberOfLeadingZeros 15 = .ok (.bipush 31, 2) := dk_16 31 (dk_at dksJ25_numberOfLeadingZeros_0 15 rfl rfl)
theorem dJ25_numberOfLeadingZeros_17 : decode cJ25_numberOfLeadingZeros 17 = .ok (.istore_n 1, 1) := dk_60 (dk_at dksJ25_numberOfLeadingZeros_0 17 rfl rfl)
theorem dJ25_numberOfLeadingZeros_18 : decode cJ25_numberOfLeadingZeros 18 = .ok (.iload_n 0, 1) := dk_26 (dk_at dksJ25_numberOfLeadingZeros_0 18 rfl rfl)
theorem dJ25_numberOfLeadingZeros_19 : decode cJ25_numberOfLeadingZeros 19 = .ok (.ldc_w 264, 3) := dk_19 1 8 (dk_at dksJ25_numberOfLeadingZeros_0 19 rfl rfl)
theorem dJ25_numberOfLeadingZeros_22 : decode cJ25_numberOfLeadingZeros 22 = .ok (.if_icmp .lt 11, 3) := dk_161 0 11 (dk_at dksJ25_numberOfLeadingZeros_1 0 rfl rfl)
theorem dJ25_numberOfLeadingZeros_25 : decode cJ25_numberOfLeadingZeros 25 = .ok (.iinc 1 (-16), 3) := dk_132 1 240 (dk_at dksJ25_numberOfLeadingZeros_1 3 rfl rfl)
theorem dJ25_numberOfLeadingZeros_28 : decode cJ25_numberOfLeadingZeros 28 = .ok (.iload_n 0, 1) := dk_26 (dk_at dksJ25_numberOfLeadingZeros_1 6 rfl rfl)
theorem dJ25_numberOfLeadingZeros_29 : decode cJ25_numberOfLeadingZeros 29 = .ok (.bipush 16, 2) := dk_16 16 (dk_at dksJ25_numberOfLeadingZeros_1 7 rfl rfl)
theorem dJ25_numberOfLeadingZeros_31 : decode cJ25_numberOfLeadingZeros 31 = .ok (.iushr, 1) := dk_124 (dk_at dksJ25_numberOfLeadingZeros_1 9 rfl rfl)
theorem dJ25_numberOfLeadingZeros_32 : decode cJ25_numberOfLeadingZeros 32 = .ok (.istore_n 0, 1) := dk_59 (dk_at dksJ25_numberOfLeadingZeros_1 10 rfl rfl)
theorem dJ25_numberOfLeadingZeros_33 : decode cJ25_numberOfLeadingZeros 33 = .ok (.iload_n 0, 1) := dk_26 (dk_at dksJ25_numberOfLeadingZeros_1 11 rfl rfl)
theorem dJ25_numberOfLeadingZeros_34 : decode cJ25_numberOfLeadingZeros 34 = .ok (.sipush 256, 3) := dk_17 1 0 (dk_at dksJ25_numberOfLeadingZeros_1 12 rfl rfl)
theorem dJ25_numberOfLeadingZeros_37 : decode cJ25_numberOfLeadingZeros 37 = .ok (.if_icmp .lt 11, 3) := dk_161 0 11 (dk_at dksJ25_numberOfLeadingZeros_1 15 rfl rfl)
theorem dJ25_numberOfLeadingZeros_40 : decode cJ25_numberOfLeadingZeros 40 = .ok (.iinc 1 (-8), 3) := dk_132 1 248 (dk_at dksJ25_numberOfLeadingZeros_1 18 rfl rfl)
theorem dJ25_numberOfLeadingZeros_43 : decode cJ25_numberOfLeadingZeros 43 = .ok (.iload_n 0, 1) := dk_26 (dk_at dksJ25_numberOfLeadingZeros_1 21 rfl rfl)
theorem dJ25_numberOfLeadingZeros_44 : decode cJ25_numberOfLeadingZeros 44 = .ok (.bipush 8, 2) := dk_16 8 (dk_at dksJ25_numberOfLeadingZeros_1 22 rfl rfl)
theorem dJ25_numberOfLeadingZeros_46 : decode cJ25_numberOfLeadingZeros 46 = .ok (.iushr, 1) := dk_124 (dk_at dksJ25_numberOfLeadingZeros_2 0 rfl rfl)
theorem dJ25_numberOfLeadingZeros_47 : decode cJ25_numberOfLeadingZeros 47 = .ok (.istore_n 0, 1) := dk_59 (dk_at dksJ25_numberOfLeadingZeros_2 1 rfl rfl)
theorem dJ25_numberOfLeadingZeros_48 : decode cJ25_numberOfLeadingZeros 48 = .ok (.iload_n 0, 1) := dk_26 (dk_at dksJ25_numberOfLeadingZeros_2 2 rfl rfl)
theorem dJ25_numberOfLeadingZeros_49 : decode cJ25_numberOfLeadingZeros 49 = .ok (.bipush 16, 2) := dk_16 16 (dk_at dksJ25_numberOfLeadingZeros_2 3 rfl rfl)
theorem dJ25_numberOfLeadingZeros_51 : decode cJ25_numberOfLeadingZeros 51 = .ok (.if_icmp .lt 10, 3) := dk_161 0 10 (dk_at dksJ25_numberOfLeadingZeros_2 5 rfl rfl)
theorem dJ25_numberOfLeadingZeros_54 : decode cJ25_numberOfLeadingZeros 54 = .ok (.iinc 1 (-4), 3) := dk_132 1 252 (dk_at dksJ25_numberOfLeadingZeros_2 8 rfl rfl)
theorem dJ25_numberOfLeadingZeros_57 : decode cJ25_numberOfLeadingZeros 57 = .ok (.iload_n 0, 1) := dk_26 (dk_at dksJ25_numberOfLeadingZeros_2 11 rfl rfl)
theorem dJ25_numberOfLeadingZeros_58 : decode cJ25_numberOfLeadingZeros 58 = .ok (.iconst 4, 1) := dk_7 (dk_at dksJ25_numberOfLeadingZeros_2 12 rfl rfl)
theorem dJ25_numberOfLeadingZeros_59 : decode cJ25_numberOfLeadingZeros 59 = .ok (.iushr, 1) := dk_124 (dk_at dksJ25_numberOfLeadingZeros_2 13 rfl rfl)
theorem dJ25_numberOfLeadingZeros_60 : decode cJ25_numberOfLeadingZeros 60 = .ok (.istore_n 0, 1) := dk_59 (dk_at dksJ25_numberOfLeadingZeros_2 14 rfl rfl)
theorem dJ25_numberOfLeadingZeros_61 : decode cJ25_numberOfLeadingZeros 61 = .ok (.iload_n 0, 1) := dk_26 (dk_at dksJ25_numberOfLeadingZeros_2 15 rfl rfl)
theorem dJ25_numberOfLeadingZeros_62 : decode cJ25_numberOfLeadingZeros 62 = .ok (.iconst 4, 1) := dk_7 (dk_at dksJ25_numberOfLeadingZeros_2 16 rfl rfl)
theorem dJ25_numberOfLeadingZeros_63 : decode cJ25_numberOfLeadingZeros 63 = .ok (.if_icmp .lt 10, 3) := dk_161 0 10 (dk_at dksJ25_numberOfLeadingZeros_2 17 rfl rfl)
theorem dJ25_numberOfLeadingZeros_66 : decode cJ25_numberOfLeadingZeros 66 = .ok (.iinc 1 (-2), 3) := dk_132 1 254 (dk_at dksJ25_numberOfLeadingZeros_2 20 rfl rfl)
theorem dJ25_numberOfLeadingZeros_69 : decode cJ25_numberOfLeadingZeros 69 = .ok (.iload_n 0, 1) := dk_26 (dk_at dksJ25_numberOfLeadingZeros_2 23 rfl rfl)
theorem dJ25_numberOfLeadingZeros_70 : decode cJ25_numberOfLeadingZeros 70 = .ok (.iconst 2, 1) := dk_5 (dk_at dksJ25_numberOfLeadingZeros_3 0 rfl rfl)
theorem dJ25_numberOfLeadingZeros_71 : decode cJ25_numberOfLeadingZeros 71 = .ok (.iushr, 1) := dk_124 (dk_at dksJ25_numberOfLeadingZeros_3 1 rfl rfl)
theorem dJ25_numberOfLeadingZeros_72 : decode cJ25_numberOfLeadingZeros 72 = .ok (.istore_n 0, 1) := dk_59 (dk_at dksJ25_numberOfLeadingZeros_3 2 rfl rfl)
theorem dJ25_numberOfLeadingZeros_73 : decode cJ25_numberOfLeadingZeros 73 = .ok (.iload_n 1, 1) := dk_27 (dk_at dksJ25_numberOfLeadingZeros_3 3 rfl rfl)
theorem dJ25_numberOfLeadingZeros_74 : decode cJ25_numberOfLeadingZeros 74 = .ok (.iload_n 0, 1) := dk_26 (dk_at dksJ25_numberOfLeadingZeros_3 4 rfl rfl)
theorem dJ25_numberOfLeadingZeros_75 : decode cJ25_numberOfLeadingZeros 75 = .ok (.iconst 1, 1) := dk_4 (dk_at dksJ25_numberOfLeadingZeros_3 5 rfl rfl)
theorem dJ25_numberOfLeadingZeros_76 : decode cJ25_numberOfLeadingZeros 76 = .ok (.iushr, 1) := dk_124 (dk_at dksJ25_numberOfLeadingZeros_3 6 rfl rfl)
theorem dJ25_numberOfLeadingZeros_77 : decode cJ25_numberOfLeadingZeros 77 = .ok (.isub, 1) := dk_100 (dk_at dksJ25_numberOfLeadingZeros_3 7 rfl rfl)
theorem dJ25_numberOfLeadingZeros_78 : decode cJ25_numberOfLeadingZeros 78 = .ok (.ireturn, 1) := dk_172 (dk_at dksJ25_numberOfLeadingZeros_3 8 rfl rfl)
abbrev cJ25_hashCode : ByteArray := prog_20_method_32_code
def yJ25_hashCode : MethodName := ⟨RJ25, "hashCode", "()I"⟩
def dkwJ25_hashCode_0 : List UInt8 := [42, 180, 0, 205, 184, 0, 208, 172]
abbrev dktJ25_hashCode_0 : List UInt8 := dkwJ25_hashCode_0 ++ []
theorem dksJ25_hashCode_0 : cJ25_hashCode.data.toList.drop 0 = dktJ25_hashCode_0 := by decide +kernel
theorem dJ25_hashCode_0 : decode cJ25_hashCode 0 = .ok (.aload_n 0, 1) := dk_42 (dk_at dksJ25_hashCode_0 0 rfl rfl)
theorem dJ25_hashCode_1 : decode cJ25_hashCode 1 = .ok (.getfield 205, 3) := dk_180 0 205 (dk_at dksJ25_hashCode_0 1 rfl rfl)
theorem dJ25_hashCode_4 : decode cJ25_hashCode 4 = .ok (.invokestatic 208, 3) := dk_184 0 208 (dk_at dksJ25_hashCode_0 4 rfl rfl)
theorem dJ25_hashCode_7 : decode cJ25_hashCode 7 = .ok (.ireturn, 1) := dk_172 (dk_at dksJ25_hashCode_0 7 rfl rfl)
abbrev cJ25_hashCode_2 : ByteArray := prog_20_method_33_code
def yJ25_hashCode_2 : MethodName := ⟨RJ25, "hashCode", "(I)I"⟩
theorem dJ25_hashCode_2_0 : decode cJ25_hashCode_2 0 = .ok (.iload_n 0, 1) := by decide +kernel
theorem dJ25_hashCode_2_1 : decode cJ25_hashCode_2 1 = .ok (.ireturn, 1) := by decide +kernel
abbrev cJ25_compareTo : ByteArray := prog_20_method_63_code
def yJ25_compareTo : MethodName := ⟨RJ25, "compareTo", "(Ljava/lang/Object;)I"⟩
def dkwJ25_compareTo_0 : List UInt8 := [42, 43, 192, 0, 1, 182, 1, 28, 172]
abbrev dktJ25_compareTo_0 : List UInt8 := dkwJ25_compareTo_0 ++ []
theorem dksJ25_compareTo_0 : cJ25_compareTo.data.toList.drop 0 = dktJ25_compareTo_0 := by decide +kernel
theorem dJ25_compareTo_0 : decode cJ25_compareTo 0 = .ok (.aload_n 0, 1) := dk_42 (dk_at dksJ25_compareTo_0 0 rfl rfl)
theorem dJ25_compareTo_1 : decode cJ25_compareTo 1 = .ok (.aload_n 1, 1) := dk_43 (dk_at dksJ25_compareTo_0 1 rfl rfl)
theorem dJ25_compareTo_2 : decode cJ25_compareTo 2 = .ok (.checkcast 1, 3) := dk_192 0 1 (dk_at dksJ25_compareTo_0 2 rfl rfl)
theorem dJ25_compareTo_5 : decode cJ25_compareTo 5 = .ok (.invokevirtual 284, 3) := dk_182 1 28 (dk_at dksJ25_compareTo_0 5 rfl rfl)
theorem dJ25_compareTo_8 : decode cJ25_compareTo 8 = .ok (.ireturn, 1) := dk_172 (dk_at dksJ25_compareTo_0 8 rfl rfl)
abbrev cJ25_compareTo_2 : ByteArray := prog_20_method_39_code
def yJ25_compareTo_2 : MethodName := ⟨RJ25, "compareTo", "(Ljava/lang/Integer;)I"⟩
def dkwJ25_compareTo_2_0 : List UInt8 := [42, 180, 0, 205, 43, 180, 0, 205, 184, 1, 3, 172]
abbrev dktJ25_compareTo_2_0 : List UInt8 := dkwJ25_compareTo_2_0 ++ []
theorem dksJ25_compareTo_2_0 : cJ25_compareTo_2.data.toList.drop 0 = dktJ25_compareTo_2_0 := by decide +kernel
theorem dJ25_compareTo_2_0 : decode cJ25_compareTo_2 0 = .ok (.aload_n 0, 1) := dk_42 (dk_at dksJ25_compareTo_2_0 0 rfl rfl)
theorem dJ25_compareTo_2_1 : decode cJ25_compareTo_2 1 = .ok (.getfield 205, 3) := dk_180 0 205 (dk_at dksJ25_compareTo_2_0 1 rfl rfl)
theorem dJ25_compareTo_2_4 : decode cJ25_compareTo_2 4 = .ok (.aload_n 1, 1) := dk_43 (dk_at dksJ25_compareTo_2_0 4 rfl rfl)
theorem dJ25_compareTo_2_5 : decode cJ25_compareTo_2 5 = .ok (.getfield 205, 3) := dk_180 0 205 (dk_at dksJ25_compareTo_2_0 5 rfl rfl)
theorem dJ25_compareTo_2_8 : decode cJ25_compareTo_2 8 = .ok (.invokestatic 259, 3) := dk_184 1 3 (dk_at dksJ25_compareTo_2_0 8 rfl rfl)
theorem dJ25_compareTo_2_11 : decode cJ25_compareTo_2 11 = .ok (.ireturn, 1) := dk_172 (dk_at dksJ25_compareTo_2_0 11 rfl rfl)
abbrev cJ25_compare : ByteArray := prog_20_method_40_code
def yJ25_compare : MethodName := ⟨RJ25, "compare", "(II)I"⟩
def dkwJ25_compare_0 : List UInt8 := [26, 27, 162, 0, 7, 2, 167, 0, 13, 26, 27, 160, 0, 7, 3, 167, 0, 4, 4, 172]
abbrev dktJ25_compare_0 : List UInt8 := dkwJ25_compare_0 ++ []
theorem dksJ25_compare_0 : cJ25_compare.data.toList.drop 0 = dktJ25_compare_0 := by decide +kernel
theorem dJ25_compare_0 : decode cJ25_compare 0 = .ok (.iload_n 0, 1) := dk_26 (dk_at dksJ25_compare_0 0 rfl rfl)
theorem dJ25_compare_1 : decode cJ25_compare 1 = .ok (.iload_n 1, 1) := dk_27 (dk_at dksJ25_compare_0 1 rfl rfl)
theorem dJ25_compare_2 : decode cJ25_compare 2 = .ok (.if_icmp .ge 7, 3) := dk_162 0 7 (dk_at dksJ25_compare_0 2 rfl rfl)
theorem dJ25_compare_5 : decode cJ25_compare 5 = .ok (.iconst (-1), 1) := dk_2 (dk_at dksJ25_compare_0 5 rfl rfl)
theorem dJ25_compare_6 : decode cJ25_compare 6 = .ok (.goto 13, 3) := dk_167 0 13 (dk_at dksJ25_compare_0 6 rfl rfl)
theorem dJ25_compare_9 : decode cJ25_compare 9 = .ok (.iload_n 0, 1) := dk_26 (dk_at dksJ25_compare_0 9 rfl rfl)
theorem dJ25_compare_10 : decode cJ25_compare 10 = .ok (.iload_n 1, 1) := dk_27 (dk_at dksJ25_compare_0 10 rfl rfl)
theorem dJ25_compare_11 : decode cJ25_compare 11 = .ok (.if_icmp .ne 7, 3) := dk_160 0 7 (dk_at dksJ25_compare_0 11 rfl rfl)
theorem dJ25_compare_14 : decode cJ25_compare 14 = .ok (.iconst 0, 1) := dk_3 (dk_at dksJ25_compare_0 14 rfl rfl)
theorem dJ25_compare_15 : decode cJ25_compare 15 = .ok (.goto 4, 3) := dk_167 0 4 (dk_at dksJ25_compare_0 15 rfl rfl)
theorem dJ25_compare_18 : decode cJ25_compare 18 = .ok (.iconst 1, 1) := dk_4 (dk_at dksJ25_compare_0 18 rfl rfl)
theorem dJ25_compare_19 : decode cJ25_compare 19 = .ok (.ireturn, 1) := dk_172 (dk_at dksJ25_compare_0 19 rfl rfl)
abbrev cJ25_numberOfTrailingZeros : ByteArray := prog_20_method_48_code
def yJ25_numberOfTrailingZeros : MethodName := ⟨RJ25, "numberOfTrailingZeros", "(I)I"⟩
def dkwJ25_numberOfTrailingZeros_3 : List UInt8 := [5, 124, 59, 27, 26, 4, 124, 96, 172]
abbrev dktJ25_numberOfTrailingZeros_3 : List UInt8 := dkwJ25_numberOfTrailingZeros_3 ++ []
def dkwJ25_numberOfTrailingZeros_2 : List UInt8 := [124, 59, 26, 16, 16, 164, 0, 10, 132, 1, 4, 26, 7, 124, 59, 26, 7, 164, 0, 10, 132, 1, 2, 26]
abbrev dktJ25_numberOfTrailingZeros_2 : List UInt8 := dkwJ25_numberOfTrailingZeros_2 ++ dktJ25_numberOfTrailingZeros_3
def dkwJ25_numberOfTrailingZeros_1 : List UInt8 := [164, 0, 11, 132, 1, 16, 26, 16, 16, 124, 59, 26, 17, 1, 0, 164, 0, 11, 132, 1, 8, 26, 16, 8]
abbrev dktJ25_numberOfTrailingZeros_1 : List UInt8 := dkwJ25_numberOfTrailingZeros_1 ++ dktJ25_numberOfTrailingZeros_2
def dkwJ25_numberOfTrailingZeros_0 : List UInt8 := [26, 2, 130, 26, 4, 100, 126, 59, 26, 157, 0, 8, 26, 16, 32, 126, 172, 4, 60, 26, 19, 1, 8]
abbrev dktJ25_numberOfTrailingZeros_0 : List UInt8 := dkwJ25_numberOfTrailingZeros_0 ++ dktJ25_numberOfTrailingZeros_1
theorem dksJ25_numberOfTrailingZeros_0 : cJ25_numberOfTrailingZeros.data.toList.drop 0 = dktJ25_numberOfTrailingZeros_0 := by decide +kernel
theorem dksJ25_numberOfTrailingZeros_1 : cJ25_numberOfTrailingZeros.data.toList.drop 23 = dktJ25_numberOfTrailingZeros_1 := dk_seg dksJ25_numberOfTrailingZeros_0 23 rfl rfl
theorem dksJ25_numberOfTrailingZeros_2 : cJ25_numberOfTrailingZeros.data.toList.drop 47 = dktJ25_numberOfTrailingZeros_2 := dk_seg dksJ25_numberOfTrailingZeros_1 24 rfl rfl
theorem dksJ25_numberOfTrailingZeros_3 : cJ25_numberOfTrailingZeros.data.toList.drop 71 = dktJ25_numberOfTrailingZeros_3 := dk_seg dksJ25_numberOfTrailingZeros_2 24 rfl rfl
theorem dJ25_numberOfTrailingZeros_0 : decode cJ25_numberOfTrailingZeros 0 = .ok (.iload_n 0, 1) := dk_26 (dk_at dksJ25_numberOfTrailingZeros_0 0 rfl rfl)
theorem dJ25_numberOfTrailingZeros_1 : decode cJ25_numberOfTrailingZeros 1 = .ok (.iconst (-1), 1) := dk_2 (dk_at dksJ25_numberOfTrailingZeros_0 1 rfl rfl)
theorem dJ25_numberOfTrailingZeros_2 : decode cJ25_numberOfTrailingZeros 2 = .ok (.ixor, 1) := dk_130 (dk_at dksJ25_numberOfTrailingZeros_0 2 rfl rfl)
theorem dJ25_numberOfTrailingZeros_3 : decode cJ25_numberOfTrailingZeros 3 = .ok (.iload_n 0, 1) := dk_26 (dk_at dksJ25_numberOfTrailingZeros_0 3 rfl rfl)
theorem dJ25_numberOfTrailingZeros_4 : decode cJ25_numberOfTrailingZeros 4 = .ok (.iconst 1, 1) := dk_4 (dk_at dksJ25_numberOfTrailingZeros_0 4 rfl rfl)
theorem dJ25_numberOfTrailingZeros_5 : decode cJ25_numberOfTrailingZeros 5 = .ok (.isub, 1) := dk_100 (dk_at dksJ25_numberOfTrailingZeros_0 5 rfl rfl)
theorem dJ25_numberOfTrailingZeros_6 : decode cJ25_numberOfTrailingZeros 6 = .ok (.iand, 1) := dk_126 (dk_at dksJ25_numberOfTrailingZeros_0 6 rfl rfl)
theorem dJ25_numberOfTrailingZeros_7 : decode cJ25_numberOfTrailingZeros 7 = .ok (.istore_n 0, 1) := dk_59 (dk_at dksJ25_numberOfTrailingZeros_0 7 rfl rfl)
theorem dJ25_numberOfTrailingZeros_8 : decode cJ25_numberOfTrailingZeros 8 = .ok (.iload_n 0, 1) := dk_26 (dk_at dksJ25_numberOfTrailingZeros_0 8 rfl rfl)
theorem dJ25_numberOfTrailingZeros_9 : decode cJ25_numberOfTrailingZeros 9 = .ok (.ifCond .gt 8, 3) := dk_157 0 8 (dk_at dksJ25_numberOfTrailingZeros_0 9 rfl rfl)
theorem dJ25_numberOfTrailingZeros_12 : decode cJ25_numberOfTrailingZeros 12 = .ok (.iload_n 0, 1) := dk_26 (dk_at dksJ25_numberOfTrailingZeros_0 12 rfl rfl)
theorem dJ25_numberOfTrailingZeros_13 : decode cJ25_numberOfTrailingZeros 13 = .ok (.bipush 32, 2) := dk_16 32 (dk_at dksJ25_numberOfTrailingZeros_0 13 rfl rfl)
theorem dJ25_numberOfTrailingZeros_15 : decode cJ25_numberOfTrailingZeros 15 = .ok (.iand, 1) := dk_126 (dk_at dksJ25_numberOfTrailingZeros_0 15 rfl rfl)
theorem dJ25_numberOfTrailingZeros_16 : decode cJ25_numberOfTrailingZeros 16 = .ok (.ireturn, 1) := dk_172 (dk_at dksJ25_numberOfTrailingZeros_0 16 rfl rfl)
theorem dJ25_numberOfTrailingZeros_17 : decode cJ25_numberOfTrailingZeros 17 = .ok (.iconst 1, 1) := dk_4 (dk_at dksJ25_numberOfTrailingZeros_0 17 rfl rfl)
theorem dJ25_numberOfTrailingZeros_18 : decode cJ25_numberOfTrailingZeros 18 = .ok (.istore_n 1, 1) := dk_60 (dk_at dksJ25_numberOfTrailingZeros_0 18 rfl rfl)
theorem dJ25_numberOfTrailingZeros_19 : decode cJ25_numberOfTrailingZeros 19 = .ok (.iload_n 0, 1) := dk_26 (dk_at dksJ25_numberOfTrailingZeros_0 19 rfl rfl)
theorem dJ25_numberOfTrailingZeros_20 : decode cJ25_numberOfTrailingZeros 20 = .ok (.ldc_w 264, 3) := dk_19 1 8 (dk_at dksJ25_numberOfTrailingZeros_0 20 rfl rfl)
theorem dJ25_numberOfTrailingZeros_23 : decode cJ25_numberOfTrailingZeros 23 = .ok (.if_icmp .le 11, 3) := dk_164 0 11 (dk_at dksJ25_numberOfTrailingZeros_1 0 rfl rfl)
theorem dJ25_numberOfTrailingZeros_26 : decode cJ25_numberOfTrailingZeros 26 = .ok (.iinc 1 16, 3) := dk_132 1 16 (dk_at dksJ25_numberOfTrailingZeros_1 3 rfl rfl)
theorem dJ25_numberOfTrailingZeros_29 : decode cJ25_numberOfTrailingZeros 29 = .ok (.iload_n 0, 1) := dk_26 (dk_at dksJ25_numberOfTrailingZeros_1 6 rfl rfl)
theorem dJ25_numberOfTrailingZeros_30 : decode cJ25_numberOfTrailingZeros 30 = .ok (.bipush 16, 2) := dk_16 16 (dk_at dksJ25_numberOfTrailingZeros_1 7 rfl rfl)
theorem dJ25_numberOfTrailingZeros_32 : decode cJ25_numberOfTrailingZeros 32 = .ok (.iushr, 1) := dk_124 (dk_at dksJ25_numberOfTrailingZeros_1 9 rfl rfl)
theorem dJ25_numberOfTrailingZeros_33 : decode cJ25_numberOfTrailingZeros 33 = .ok (.istore_n 0, 1) := dk_59 (dk_at dksJ25_numberOfTrailingZeros_1 10 rfl rfl)
theorem dJ25_numberOfTrailingZeros_34 : decode cJ25_numberOfTrailingZeros 34 = .ok (.iload_n 0, 1) := dk_26 (dk_at dksJ25_numberOfTrailingZeros_1 11 rfl rfl)
theorem dJ25_numberOfTrailingZeros_35 : decode cJ25_numberOfTrailingZeros 35 = .ok (.sipush 256, 3) := dk_17 1 0 (dk_at dksJ25_numberOfTrailingZeros_1 12 rfl rfl)
theorem dJ25_numberOfTrailingZeros_38 : decode cJ25_numberOfTrailingZeros 38 = .ok (.if_icmp .le 11, 3) := dk_164 0 11 (dk_at dksJ25_numberOfTrailingZeros_1 15 rfl rfl)
theorem dJ25_numberOfTrailingZeros_41 : decode cJ25_numberOfTrailingZeros 41 = .ok (.iinc 1 8, 3) := dk_132 1 8 (dk_at dksJ25_numberOfTrailingZeros_1 18 rfl rfl)
theorem dJ25_numberOfTrailingZeros_44 : decode cJ25_numberOfTrailingZeros 44 = .ok (.iload_n 0, 1) := dk_26 (dk_at dksJ25_numberOfTrailingZeros_1 21 rfl rfl)
theorem dJ25_numberOfTrailingZeros_45 : decode cJ25_numberOfTrailingZeros 45 = .ok (.bipush 8, 2) := dk_16 8 (dk_at dksJ25_numberOfTrailingZeros_1 22 rfl rfl)
theorem dJ25_numberOfTrailingZeros_47 : decode cJ25_numberOfTrailingZeros 47 = .ok (.iushr, 1) := dk_124 (dk_at dksJ25_numberOfTrailingZeros_2 0 rfl rfl)
theorem dJ25_numberOfTrailingZeros_48 : decode cJ25_numberOfTrailingZeros 48 = .ok (.istore_n 0, 1) := dk_59 (dk_at dksJ25_numberOfTrailingZeros_2 1 rfl rfl)
theorem dJ25_numberOfTrailingZeros_49 : decode cJ25_numberOfTrailingZeros 49 = .ok (.iload_n 0, 1) := dk_26 (dk_at dksJ25_numberOfTrailingZeros_2 2 rfl rfl)
theorem dJ25_numberOfTrailingZeros_50 : decode cJ25_numberOfTrailingZeros 50 = .ok (.bipush 16, 2) := dk_16 16 (dk_at dksJ25_numberOfTrailingZeros_2 3 rfl rfl)
theorem dJ25_numberOfTrailingZeros_52 : decode cJ25_numberOfTrailingZeros 52 = .ok (.if_icmp .le 10, 3) := dk_164 0 10 (dk_at dksJ25_numberOfTrailingZeros_2 5 rfl rfl)
theorem dJ25_numberOfTrailingZeros_55 : decode cJ25_numberOfTrailingZeros 55 = .ok (.iinc 1 4, 3) := dk_132 1 4 (dk_at dksJ25_numberOfTrailingZeros_2 8 rfl rfl)
theorem dJ25_numberOfTrailingZeros_58 : decode cJ25_numberOfTrailingZeros 58 = .ok (.iload_n 0, 1) := dk_26 (dk_at dksJ25_numberOfTrailingZeros_2 11 rfl rfl)
theorem dJ25_numberOfTrailingZeros_59 : decode cJ25_numberOfTrailingZeros 59 = .ok (.iconst 4, 1) := dk_7 (dk_at dksJ25_numberOfTrailingZeros_2 12 rfl rfl)
theorem dJ25_numberOfTrailingZeros_60 : decode cJ25_numberOfTrailingZeros 60 = .ok (.iushr, 1) := dk_124 (dk_at dksJ25_numberOfTrailingZeros_2 13 rfl rfl)
theorem dJ25_numberOfTrailingZeros_61 : decode cJ25_numberOfTrailingZeros 61 = .ok (.istore_n 0, 1) := dk_59 (dk_at dksJ25_numberOfTrailingZeros_2 14 rfl rfl)
theorem dJ25_numberOfTrailingZeros_62 : decode cJ25_numberOfTrailingZeros 62 = .ok (.iload_n 0, 1) := dk_26 (dk_at dksJ25_numberOfTrailingZeros_2 15 rfl rfl)
theorem dJ25_numberOfTrailingZeros_63 : decode cJ25_numberOfTrailingZeros 63 = .ok (.iconst 4, 1) := dk_7 (dk_at dksJ25_numberOfTrailingZeros_2 16 rfl rfl)
theorem dJ25_numberOfTrailingZeros_64 : decode cJ25_numberOfTrailingZeros 64 = .ok (.if_icmp .le 10, 3) := dk_164 0 10 (dk_at dksJ25_numberOfTrailingZeros_2 17 rfl rfl)
theorem dJ25_numberOfTrailingZeros_67 : decode cJ25_numberOfTrailingZeros 67 = .ok (.iinc 1 2, 3) := dk_132 1 2 (dk_at dksJ25_numberOfTrailingZeros_2 20 rfl rfl)
theorem dJ25_numberOfTrailingZeros_70 : decode cJ25_numberOfTrailingZeros 70 = .ok (.iload_n 0, 1) := dk_26 (dk_at dksJ25_numberOfTrailingZeros_2 23 rfl rfl)
theorem dJ25_numberOfTrailingZeros_71 : decode cJ25_numberOfTrailingZeros 71 = .ok (.iconst 2, 1) := dk_5 (dk_at dksJ25_numberOfTrailingZeros_3 0 rfl rfl)
theorem dJ25_numberOfTrailingZeros_72 : decode cJ25_numberOfTrailingZeros 72 = .ok (.iushr, 1) := dk_124 (dk_at dksJ25_numberOfTrailingZeros_3 1 rfl rfl)
theorem dJ25_numberOfTrailingZeros_73 : decode cJ25_numberOfTrailingZeros 73 = .ok (.istore_n 0, 1) := dk_59 (dk_at dksJ25_numberOfTrailingZeros_3 2 rfl rfl)
theorem dJ25_numberOfTrailingZeros_74 : decode cJ25_numberOfTrailingZeros 74 = .ok (.iload_n 1, 1) := dk_27 (dk_at dksJ25_numberOfTrailingZeros_3 3 rfl rfl)
theorem dJ25_numberOfTrailingZeros_75 : decode cJ25_numberOfTrailingZeros 75 = .ok (.iload_n 0, 1) := dk_26 (dk_at dksJ25_numberOfTrailingZeros_3 4 rfl rfl)
theorem dJ25_numberOfTrailingZeros_76 : decode cJ25_numberOfTrailingZeros 76 = .ok (.iconst 1, 1) := dk_4 (dk_at dksJ25_numberOfTrailingZeros_3 5 rfl rfl)
theorem dJ25_numberOfTrailingZeros_77 : decode cJ25_numberOfTrailingZeros 77 = .ok (.iushr, 1) := dk_124 (dk_at dksJ25_numberOfTrailingZeros_3 6 rfl rfl)
theorem dJ25_numberOfTrailingZeros_78 : decode cJ25_numberOfTrailingZeros 78 = .ok (.iadd, 1) := dk_96 (dk_at dksJ25_numberOfTrailingZeros_3 7 rfl rfl)
theorem dJ25_numberOfTrailingZeros_79 : decode cJ25_numberOfTrailingZeros 79 = .ok (.ireturn, 1) := dk_172 (dk_at dksJ25_numberOfTrailingZeros_3 8 rfl rfl)
abbrev cJ25_equals : ByteArray := prog_20_method_34_code
def yJ25_equals : MethodName := ⟨RJ25, "equals", "(Ljava/lang/Object;)Z"⟩
def dkwJ25_equals_1 : List UInt8 := [167, 0, 4, 3, 172, 3, 172]
abbrev dktJ25_equals_1 : List UInt8 := dkwJ25_equals_1 ++ []
def dkwJ25_equals_0 : List UInt8 := [43, 193, 0, 1, 153, 0, 23, 42, 180, 0, 205, 43, 192, 0, 1, 182, 0, 211, 160, 0, 7, 4]
abbrev dktJ25_equals_0 : List UInt8 := dkwJ25_equals_0 ++ dktJ25_equals_1
theorem dksJ25_equals_0 : cJ25_equals.data.toList.drop 0 = dktJ25_equals_0 := by decide +kernel
theorem dksJ25_equals_1 : cJ25_equals.data.toList.drop 22 = dktJ25_equals_1 := dk_seg dksJ25_equals_0 22 rfl rfl
theorem dJ25_equals_0 : decode cJ25_equals 0 = .ok (.aload_n 1, 1) := dk_43 (dk_at dksJ25_equals_0 0 rfl rfl)
theorem dJ25_equals_1 : decode cJ25_equals 1 = .ok (.instanceof 1, 3) := dk_193 0 1 (dk_at dksJ25_equals_0 1 rfl rfl)
theorem dJ25_equals_4 : decode cJ25_equals 4 = .ok (.ifCond .eq 23, 3) := dk_153 0 23 (dk_at dksJ25_equals_0 4 rfl rfl)
theorem dJ25_equals_7 : decode cJ25_equals 7 = .ok (.aload_n 0, 1) := dk_42 (dk_at dksJ25_equals_0 7 rfl rfl)
theorem dJ25_equals_8 : decode cJ25_equals 8 = .ok (.getfield 205, 3) := dk_180 0 205 (dk_at dksJ25_equals_0 8 rfl rfl)
theorem dJ25_equals_11 : decode cJ25_equals 11 = .ok (.aload_n 1, 1) := dk_43 (dk_at dksJ25_equals_0 11 rfl rfl)
theorem dJ25_equals_12 : decode cJ25_equals 12 = .ok (.checkcast 1, 3) := dk_192 0 1 (dk_at dksJ25_equals_0 12 rfl rfl)
theorem dJ25_equals_15 : decode cJ25_equals 15 = .ok (.invokevirtual 211, 3) := dk_182 0 211 (dk_at dksJ25_equals_0 15 rfl rfl)
theorem dJ25_equals_18 : decode cJ25_equals 18 = .ok (.if_icmp .ne 7, 3) := dk_160 0 7 (dk_at dksJ25_equals_0 18 rfl rfl)
theorem dJ25_equals_21 : decode cJ25_equals 21 = .ok (.iconst 1, 1) := dk_4 (dk_at dksJ25_equals_0 21 rfl rfl)
theorem dJ25_equals_22 : decode cJ25_equals 22 = .ok (.goto 4, 3) := dk_167 0 4 (dk_at dksJ25_equals_1 0 rfl rfl)
theorem dJ25_equals_25 : decode cJ25_equals 25 = .ok (.iconst 0, 1) := dk_3 (dk_at dksJ25_equals_1 3 rfl rfl)
theorem dJ25_equals_26 : decode cJ25_equals 26 = .ok (.ireturn, 1) := dk_172 (dk_at dksJ25_equals_1 4 rfl rfl)
theorem dJ25_equals_27 : decode cJ25_equals 27 = .ok (.iconst 0, 1) := dk_3 (dk_at dksJ25_equals_1 5 rfl rfl)
theorem dJ25_equals_28 : decode cJ25_equals 28 = .ok (.ireturn, 1) := dk_172 (dk_at dksJ25_equals_1 6 rfl rfl)
abbrev cJ25_intValue : ByteArray := prog_20_method_27_code
def yJ25_intValue : MethodName := ⟨RJ25, "intValue", "()I"⟩
theorem dJ25_intValue_0 : decode cJ25_intValue 0 = .ok (.aload_n 0, 1) := by decide +kernel
theorem dJ25_intValue_1 : decode cJ25_intValue 1 = .ok (.getfield 205, 3) := by decide +kernel
theorem dJ25_intValue_4 : decode cJ25_intValue 4 = .ok (.ireturn, 1) := by decide +kernel
abbrev cJ25_valueOf : ByteArray := prog_20_method_22_code
def yJ25_valueOf : MethodName := ⟨RJ25, "valueOf", "(I)Ljava/lang/Integer;"⟩
def dkwJ25_valueOf_1 : List UInt8 := [187, 0, 1, 89, 26, 183, 0, 199, 176]
abbrev dktJ25_valueOf_1 : List UInt8 := dkwJ25_valueOf_1 ++ []
def dkwJ25_valueOf_0 : List UInt8 := [26, 16, 128, 161, 0, 20, 26, 178, 0, 191, 163, 0, 13, 178, 0, 195, 26, 17, 0, 128, 96, 50, 176]
abbrev dktJ25_valueOf_0 : List UInt8 := dkwJ25_valueOf_0 ++ dktJ25_valueOf_1
theorem dksJ25_valueOf_0 : cJ25_valueOf.data.toList.drop 0 = dktJ25_valueOf_0 := by decide +kernel
theorem dksJ25_valueOf_1 : cJ25_valueOf.data.toList.drop 23 = dktJ25_valueOf_1 := dk_seg dksJ25_valueOf_0 23 rfl rfl
theorem dJ25_valueOf_0 : decode cJ25_valueOf 0 = .ok (.iload_n 0, 1) := dk_26 (dk_at dksJ25_valueOf_0 0 rfl rfl)
theorem dJ25_valueOf_1 : decode cJ25_valueOf 1 = .ok (.bipush (-128), 2) := dk_16 128 (dk_at dksJ25_valueOf_0 1 rfl rfl)
theorem dJ25_valueOf_3 : decode cJ25_valueOf 3 = .ok (.if_icmp .lt 20, 3) := dk_161 0 20 (dk_at dksJ25_valueOf_0 3 rfl rfl)
theorem dJ25_valueOf_6 : decode cJ25_valueOf 6 = .ok (.iload_n 0, 1) := dk_26 (dk_at dksJ25_valueOf_0 6 rfl rfl)
theorem dJ25_valueOf_7 : decode cJ25_valueOf 7 = .ok (.getstatic 191, 3) := dk_178 0 191 (dk_at dksJ25_valueOf_0 7 rfl rfl)
theorem dJ25_valueOf_10 : decode cJ25_valueOf 10 = .ok (.if_icmp .gt 13, 3) := dk_163 0 13 (dk_at dksJ25_valueOf_0 10 rfl rfl)
theorem dJ25_valueOf_13 : decode cJ25_valueOf 13 = .ok (.getstatic 195, 3) := dk_178 0 195 (dk_at dksJ25_valueOf_0 13 rfl rfl)
theorem dJ25_valueOf_16 : decode cJ25_valueOf 16 = .ok (.iload_n 0, 1) := dk_26 (dk_at dksJ25_valueOf_0 16 rfl rfl)
theorem dJ25_valueOf_17 : decode cJ25_valueOf 17 = .ok (.sipush 128, 3) := dk_17 0 128 (dk_at dksJ25_valueOf_0 17 rfl rfl)
theorem dJ25_valueOf_20 : decode cJ25_valueOf 20 = .ok (.iadd, 1) := dk_96 (dk_at dksJ25_valueOf_0 20 rfl rfl)
theorem dJ25_valueOf_21 : decode cJ25_valueOf 21 = .ok (.aaload, 1) := dk_50 (dk_at dksJ25_valueOf_0 21 rfl rfl)
theorem dJ25_valueOf_22 : decode cJ25_valueOf 22 = .ok (.areturn, 1) := dk_176 (dk_at dksJ25_valueOf_0 22 rfl rfl)
theorem dJ25_valueOf_23 : decode cJ25_valueOf 23 = .ok (.new 1, 3) := dk_187 0 1 (dk_at dksJ25_valueOf_1 0 rfl rfl)
theorem dJ25_valueOf_26 : decode cJ25_valueOf 26 = .ok (.dup, 1) := dk_89 (dk_at dksJ25_valueOf_1 3 rfl rfl)
theorem dJ25_valueOf_27 : decode cJ25_valueOf 27 = .ok (.iload_n 0, 1) := dk_26 (dk_at dksJ25_valueOf_1 4 rfl rfl)
theorem dJ25_valueOf_28 : decode cJ25_valueOf 28 = .ok (.invokespecial 199, 3) := dk_183 0 199 (dk_at dksJ25_valueOf_1 5 rfl rfl)
theorem dJ25_valueOf_31 : decode cJ25_valueOf 31 = .ok (.areturn, 1) := dk_176 (dk_at dksJ25_valueOf_1 8 rfl rfl)
abbrev cJ25_init : ByteArray := prog_20_method_23_code
def yJ25_init : MethodName := ⟨RJ25, "<init>", "(I)V"⟩
def dkwJ25_init_0 : List UInt8 := [42, 183, 0, 202, 42, 27, 181, 0, 205, 177]
abbrev dktJ25_init_0 : List UInt8 := dkwJ25_init_0 ++ []
theorem dksJ25_init_0 : cJ25_init.data.toList.drop 0 = dktJ25_init_0 := by decide +kernel
theorem dJ25_init_0 : decode cJ25_init 0 = .ok (.aload_n 0, 1) := dk_42 (dk_at dksJ25_init_0 0 rfl rfl)
theorem dJ25_init_1 : decode cJ25_init 1 = .ok (.invokespecial 202, 3) := dk_183 0 202 (dk_at dksJ25_init_0 1 rfl rfl)
theorem dJ25_init_4 : decode cJ25_init 4 = .ok (.aload_n 0, 1) := dk_42 (dk_at dksJ25_init_0 4 rfl rfl)
theorem dJ25_init_5 : decode cJ25_init 5 = .ok (.iload_n 1, 1) := dk_27 (dk_at dksJ25_init_0 5 rfl rfl)
theorem dJ25_init_6 : decode cJ25_init 6 = .ok (.putfield 205, 3) := dk_181 0 205 (dk_at dksJ25_init_0 6 rfl rfl)
theorem dJ25_init_9 : decode cJ25_init 9 = .ok (.return_, 1) := dk_177 (dk_at dksJ25_init_0 9 rfl rfl)
abbrev cJ25_stringSize : ByteArray := prog_20_method_13_code
def yJ25_stringSize : MethodName := ⟨RJ25, "stringSize", "(I)I"⟩
def dkwJ25_stringSize_1 : List UInt8 := [164, 0, 7, 29, 27, 96, 172, 16, 10, 28, 104, 61, 132, 3, 1, 167, 255, 233, 16, 10, 27, 96, 172]
abbrev dktJ25_stringSize_1 : List UInt8 := dkwJ25_stringSize_1 ++ []
def dkwJ25_stringSize_0 : List UInt8 := [4, 60, 26, 155, 0, 8, 3, 60, 26, 116, 59, 16, 246, 61, 4, 62, 29, 16, 10, 162, 0, 23, 26, 28]
abbrev dktJ25_stringSize_0 : List UInt8 := dkwJ25_stringSize_0 ++ dktJ25_stringSize_1
theorem dksJ25_stringSize_0 : cJ25_stringSize.data.toList.drop 0 = dktJ25_stringSize_0 := by decide +kernel
theorem dksJ25_stringSize_1 : cJ25_stringSize.data.toList.drop 24 = dktJ25_stringSize_1 := dk_seg dksJ25_stringSize_0 24 rfl rfl
theorem dJ25_stringSize_0 : decode cJ25_stringSize 0 = .ok (.iconst 1, 1) := dk_4 (dk_at dksJ25_stringSize_0 0 rfl rfl)
theorem dJ25_stringSize_1 : decode cJ25_stringSize 1 = .ok (.istore_n 1, 1) := dk_60 (dk_at dksJ25_stringSize_0 1 rfl rfl)
theorem dJ25_stringSize_2 : decode cJ25_stringSize 2 = .ok (.iload_n 0, 1) := dk_26 (dk_at dksJ25_stringSize_0 2 rfl rfl)
theorem dJ25_stringSize_3 : decode cJ25_stringSize 3 = .ok (.ifCond .lt 8, 3) := dk_155 0 8 (dk_at dksJ25_stringSize_0 3 rfl rfl)
theorem dJ25_stringSize_6 : decode cJ25_stringSize 6 = .ok (.iconst 0, 1) := dk_3 (dk_at dksJ25_stringSize_0 6 rfl rfl)
theorem dJ25_stringSize_7 : decode cJ25_stringSize 7 = .ok (.istore_n 1, 1) := dk_60 (dk_at dksJ25_stringSize_0 7 rfl rfl)
theorem dJ25_stringSize_8 : decode cJ25_stringSize 8 = .ok (.iload_n 0, 1) := dk_26 (dk_at dksJ25_stringSize_0 8 rfl rfl)
theorem dJ25_stringSize_9 : decode cJ25_stringSize 9 = .ok (.ineg, 1) := dk_116 (dk_at dksJ25_stringSize_0 9 rfl rfl)
theorem dJ25_stringSize_10 : decode cJ25_stringSize 10 = .ok (.istore_n 0, 1) := dk_59 (dk_at dksJ25_stringSize_0 10 rfl rfl)
theorem dJ25_stringSize_11 : decode cJ25_stringSize 11 = .ok (.bipush (-10), 2) := dk_16 246 (dk_at dksJ25_stringSize_0 11 rfl rfl)
theorem dJ25_stringSize_13 : decode cJ25_stringSize 13 = .ok (.istore_n 2, 1) := dk_61 (dk_at dksJ25_stringSize_0 13 rfl rfl)
theorem dJ25_stringSize_14 : decode cJ25_stringSize 14 = .ok (.iconst 1, 1) := dk_4 (dk_at dksJ25_stringSize_0 14 rfl rfl)
theorem dJ25_stringSize_15 : decode cJ25_stringSize 15 = .ok (.istore_n 3, 1) := dk_62 (dk_at dksJ25_stringSize_0 15 rfl rfl)
theorem dJ25_stringSize_16 : decode cJ25_stringSize 16 = .ok (.iload_n 3, 1) := dk_29 (dk_at dksJ25_stringSize_0 16 rfl rfl)
theorem dJ25_stringSize_17 : decode cJ25_stringSize 17 = .ok (.bipush 10, 2) := dk_16 10 (dk_at dksJ25_stringSize_0 17 rfl rfl)
theorem dJ25_stringSize_19 : decode cJ25_stringSize 19 = .ok (.if_icmp .ge 23, 3) := dk_162 0 23 (dk_at dksJ25_stringSize_0 19 rfl rfl)
theorem dJ25_stringSize_22 : decode cJ25_stringSize 22 = .ok (.iload_n 0, 1) := dk_26 (dk_at dksJ25_stringSize_0 22 rfl rfl)
theorem dJ25_stringSize_23 : decode cJ25_stringSize 23 = .ok (.iload_n 2, 1) := dk_28 (dk_at dksJ25_stringSize_0 23 rfl rfl)
theorem dJ25_stringSize_24 : decode cJ25_stringSize 24 = .ok (.if_icmp .le 7, 3) := dk_164 0 7 (dk_at dksJ25_stringSize_1 0 rfl rfl)
theorem dJ25_stringSize_27 : decode cJ25_stringSize 27 = .ok (.iload_n 3, 1) := dk_29 (dk_at dksJ25_stringSize_1 3 rfl rfl)
theorem dJ25_stringSize_28 : decode cJ25_stringSize 28 = .ok (.iload_n 1, 1) := dk_27 (dk_at dksJ25_stringSize_1 4 rfl rfl)
theorem dJ25_stringSize_29 : decode cJ25_stringSize 29 = .ok (.iadd, 1) := dk_96 (dk_at dksJ25_stringSize_1 5 rfl rfl)
theorem dJ25_stringSize_30 : decode cJ25_stringSize 30 = .ok (.ireturn, 1) := dk_172 (dk_at dksJ25_stringSize_1 6 rfl rfl)
theorem dJ25_stringSize_31 : decode cJ25_stringSize 31 = .ok (.bipush 10, 2) := dk_16 10 (dk_at dksJ25_stringSize_1 7 rfl rfl)
theorem dJ25_stringSize_33 : decode cJ25_stringSize 33 = .ok (.iload_n 2, 1) := dk_28 (dk_at dksJ25_stringSize_1 9 rfl rfl)
theorem dJ25_stringSize_34 : decode cJ25_stringSize 34 = .ok (.imul, 1) := dk_104 (dk_at dksJ25_stringSize_1 10 rfl rfl)
theorem dJ25_stringSize_35 : decode cJ25_stringSize 35 = .ok (.istore_n 2, 1) := dk_61 (dk_at dksJ25_stringSize_1 11 rfl rfl)
theorem dJ25_stringSize_36 : decode cJ25_stringSize 36 = .ok (.iinc 3 1, 3) := dk_132 3 1 (dk_at dksJ25_stringSize_1 12 rfl rfl)
theorem dJ25_stringSize_39 : decode cJ25_stringSize 39 = .ok (.goto (-23), 3) := dk_167 255 233 (dk_at dksJ25_stringSize_1 15 rfl rfl)
theorem dJ25_stringSize_42 : decode cJ25_stringSize 42 = .ok (.bipush 10, 2) := dk_16 10 (dk_at dksJ25_stringSize_1 18 rfl rfl)
theorem dJ25_stringSize_44 : decode cJ25_stringSize 44 = .ok (.iload_n 1, 1) := dk_27 (dk_at dksJ25_stringSize_1 20 rfl rfl)
theorem dJ25_stringSize_45 : decode cJ25_stringSize 45 = .ok (.iadd, 1) := dk_96 (dk_at dksJ25_stringSize_1 21 rfl rfl)
theorem dJ25_stringSize_46 : decode cJ25_stringSize 46 = .ok (.ireturn, 1) := dk_172 (dk_at dksJ25_stringSize_1 22 rfl rfl)
abbrev cJ25_getChars : ByteArray := prog_20_method_12_code
def yJ25_getChars : MethodName := ⟨RJ25, "getChars", "(II[B)I"⟩
def dkwJ25_getChars_5 : List UInt8 := [16, 45, 84, 21, 5, 172]
abbrev dktJ25_getChars_5 : List UInt8 := dkwJ25_getChars_5 ++ []
def dkwJ25_getChars_4 : List UInt8 := [132, 5, 255, 21, 5, 178, 0, 87, 26, 116, 51, 84, 21, 6, 153, 0, 12, 44, 132, 5, 255, 21, 5]
abbrev dktJ25_getChars_4 : List UInt8 := dkwJ25_getChars_4 ++ dktJ25_getChars_5
def dkwJ25_getChars_3 : List UInt8 := [167, 255, 209, 44, 132, 5, 255, 21, 5, 178, 0, 83, 26, 116, 51, 84, 26, 16, 247, 162, 0, 16, 44]
abbrev dktJ25_getChars_3 : List UInt8 := dkwJ25_getChars_3 ++ dktJ25_getChars_4
def dkwJ25_getChars_2 : List UInt8 := [21, 5, 178, 0, 83, 21, 4, 51, 84, 44, 132, 5, 255, 21, 5, 178, 0, 87, 21, 4, 51, 84]
abbrev dktJ25_getChars_2 : List UInt8 := dkwJ25_getChars_2 ++ dktJ25_getChars_3
def dkwJ25_getChars_1 : List UInt8 := [16, 156, 163, 0, 47, 26, 16, 100, 108, 62, 29, 16, 100, 104, 26, 100, 54, 4, 29, 59, 44, 132, 5, 255]
abbrev dktJ25_getChars_1 : List UInt8 := dkwJ25_getChars_1 ++ dktJ25_getChars_2
def dkwJ25_getChars_0 : List UInt8 := [27, 54, 5, 26, 156, 0, 7, 4, 167, 0, 4, 3, 54, 6, 21, 6, 154, 0, 6, 26, 116, 59, 26]
abbrev dktJ25_getChars_0 : List UInt8 := dkwJ25_getChars_0 ++ dktJ25_getChars_1
theorem dksJ25_getChars_0 : cJ25_getChars.data.toList.drop 0 = dktJ25_getChars_0 := by decide +kernel
theorem dksJ25_getChars_1 : cJ25_getChars.data.toList.drop 23 = dktJ25_getChars_1 := dk_seg dksJ25_getChars_0 23 rfl rfl
theorem dksJ25_getChars_2 : cJ25_getChars.data.toList.drop 47 = dktJ25_getChars_2 := dk_seg dksJ25_getChars_1 24 rfl rfl
theorem dksJ25_getChars_3 : cJ25_getChars.data.toList.drop 69 = dktJ25_getChars_3 := dk_seg dksJ25_getChars_2 22 rfl rfl
theorem dksJ25_getChars_4 : cJ25_getChars.data.toList.drop 92 = dktJ25_getChars_4 := dk_seg dksJ25_getChars_3 23 rfl rfl
theorem dksJ25_getChars_5 : cJ25_getChars.data.toList.drop 115 = dktJ25_getChars_5 := dk_seg dksJ25_getChars_4 23 rfl rfl
theorem dJ25_getChars_0 : decode cJ25_getChars 0 = .ok (.iload_n 1, 1) := dk_27 (dk_at dksJ25_getChars_0 0 rfl rfl)
theorem dJ25_getChars_1 : decode cJ25_getChars 1 = .ok (.istore 5, 2) := dk_54 5 (dk_at dksJ25_getChars_0 1 rfl rfl)
theorem dJ25_getChars_3 : decode cJ25_getChars 3 = .ok (.iload_n 0, 1) := dk_26 (dk_at dksJ25_getChars_0 3 rfl rfl)
theorem dJ25_getChars_4 : decode cJ25_getChars 4 = .ok (.ifCond .ge 7, 3) := dk_156 0 7 (dk_at dksJ25_getChars_0 4 rfl rfl)
theorem dJ25_getChars_7 : decode cJ25_getChars 7 = .ok (.iconst 1, 1) := dk_4 (dk_at dksJ25_getChars_0 7 rfl rfl)
theorem dJ25_getChars_8 : decode cJ25_getChars 8 = .ok (.goto 4, 3) := dk_167 0 4 (dk_at dksJ25_getChars_0 8 rfl rfl)
theorem dJ25_getChars_11 : decode cJ25_getChars 11 = .ok (.iconst 0, 1) := dk_3 (dk_at dksJ25_getChars_0 11 rfl rfl)
theorem dJ25_getChars_12 : decode cJ25_getChars 12 = .ok (.istore 6, 2) := dk_54 6 (dk_at dksJ25_getChars_0 12 rfl rfl)
theorem dJ25_getChars_14 : decode cJ25_getChars 14 = .ok (.iload 6, 2) := dk_21 6 (dk_at dksJ25_getChars_0 14 rfl rfl)
theorem dJ25_getChars_16 : decode cJ25_getChars 16 = .ok (.ifCond .ne 6, 3) := dk_154 0 6 (dk_at dksJ25_getChars_0 16 rfl rfl)
theorem dJ25_getChars_19 : decode cJ25_getChars 19 = .ok (.iload_n 0, 1) := dk_26 (dk_at dksJ25_getChars_0 19 rfl rfl)
theorem dJ25_getChars_20 : decode cJ25_getChars 20 = .ok (.ineg, 1) := dk_116 (dk_at dksJ25_getChars_0 20 rfl rfl)
theorem dJ25_getChars_21 : decode cJ25_getChars 21 = .ok (.istore_n 0, 1) := dk_59 (dk_at dksJ25_getChars_0 21 rfl rfl)
theorem dJ25_getChars_22 : decode cJ25_getChars 22 = .ok (.iload_n 0, 1) := dk_26 (dk_at dksJ25_getChars_0 22 rfl rfl)
theorem dJ25_getChars_23 : decode cJ25_getChars 23 = .ok (.bipush (-100), 2) := dk_16 156 (dk_at dksJ25_getChars_1 0 rfl rfl)
theorem dJ25_getChars_25 : decode cJ25_getChars 25 = .ok (.if_icmp .gt 47, 3) := dk_163 0 47 (dk_at dksJ25_getChars_1 2 rfl rfl)
theorem dJ25_getChars_28 : decode cJ25_getChars 28 = .ok (.iload_n 0, 1) := dk_26 (dk_at dksJ25_getChars_1 5 rfl rfl)
theorem dJ25_getChars_29 : decode cJ25_getChars 29 = .ok (.bipush 100, 2) := dk_16 100 (dk_at dksJ25_getChars_1 6 rfl rfl)
theorem dJ25_getChars_31 : decode cJ25_getChars 31 = .ok (.idiv, 1) := dk_108 (dk_at dksJ25_getChars_1 8 rfl rfl)
theorem dJ25_getChars_32 : decode cJ25_getChars 32 = .ok (.istore_n 3, 1) := dk_62 (dk_at dksJ25_getChars_1 9 rfl rfl)
theorem dJ25_getChars_33 : decode cJ25_getChars 33 = .ok (.iload_n 3, 1) := dk_29 (dk_at dksJ25_getChars_1 10 rfl rfl)
theorem dJ25_getChars_34 : decode cJ25_getChars 34 = .ok (.bipush 100, 2) := dk_16 100 (dk_at dksJ25_getChars_1 11 rfl rfl)
theorem dJ25_getChars_36 : decode cJ25_getChars 36 = .ok (.imul, 1) := dk_104 (dk_at dksJ25_getChars_1 13 rfl rfl)
theorem dJ25_getChars_37 : decode cJ25_getChars 37 = .ok (.iload_n 0, 1) := dk_26 (dk_at dksJ25_getChars_1 14 rfl rfl)
theorem dJ25_getChars_38 : decode cJ25_getChars 38 = .ok (.isub, 1) := dk_100 (dk_at dksJ25_getChars_1 15 rfl rfl)
theorem dJ25_getChars_39 : decode cJ25_getChars 39 = .ok (.istore 4, 2) := dk_54 4 (dk_at dksJ25_getChars_1 16 rfl rfl)
theorem dJ25_getChars_41 : decode cJ25_getChars 41 = .ok (.iload_n 3, 1) := dk_29 (dk_at dksJ25_getChars_1 18 rfl rfl)
theorem dJ25_getChars_42 : decode cJ25_getChars 42 = .ok (.istore_n 0, 1) := dk_59 (dk_at dksJ25_getChars_1 19 rfl rfl)
theorem dJ25_getChars_43 : decode cJ25_getChars 43 = .ok (.aload_n 2, 1) := dk_44 (dk_at dksJ25_getChars_1 20 rfl rfl)
theorem dJ25_getChars_44 : decode cJ25_getChars 44 = .ok (.iinc 5 (-1), 3) := dk_132 5 255 (dk_at dksJ25_getChars_1 21 rfl rfl)
theorem dJ25_getChars_47 : decode cJ25_getChars 47 = .ok (.iload 5, 2) := dk_21 5 (dk_at dksJ25_getChars_2 0 rfl rfl)
theorem dJ25_getChars_49 : decode cJ25_getChars 49 = .ok (.getstatic 83, 3) := dk_178 0 83 (dk_at dksJ25_getChars_2 2 rfl rfl)
theorem dJ25_getChars_52 : decode cJ25_getChars 52 = .ok (.iload 4, 2) := dk_21 4 (dk_at dksJ25_getChars_2 5 rfl rfl)
theorem dJ25_getChars_54 : decode cJ25_getChars 54 = .ok (.baload, 1) := dk_51 (dk_at dksJ25_getChars_2 7 rfl rfl)
theorem dJ25_getChars_55 : decode cJ25_getChars 55 = .ok (.bastore, 1) := dk_84 (dk_at dksJ25_getChars_2 8 rfl rfl)
theorem dJ25_getChars_56 : decode cJ25_getChars 56 = .ok (.aload_n 2, 1) := dk_44 (dk_at dksJ25_getChars_2 9 rfl rfl)
theorem dJ25_getChars_57 : decode cJ25_getChars 57 = .ok (.iinc 5 (-1), 3) := dk_132 5 255 (dk_at dksJ25_getChars_2 10 rfl rfl)
theorem dJ25_getChars_60 : decode cJ25_getChars 60 = .ok (.iload 5, 2) := dk_21 5 (dk_at dksJ25_getChars_2 13 rfl rfl)
theorem dJ25_getChars_62 : decode cJ25_getChars 62 = .ok (.getstatic 87, 3) := dk_178 0 87 (dk_at dksJ25_getChars_2 15 rfl rfl)
theorem dJ25_getChars_65 : decode cJ25_getChars 65 = .ok (.iload 4, 2) := dk_21 4 (dk_at dksJ25_getChars_2 18 rfl rfl)
theorem dJ25_getChars_67 : decode cJ25_getChars 67 = .ok (.baload, 1) := dk_51 (dk_at dksJ25_getChars_2 20 rfl rfl)
theorem dJ25_getChars_68 : decode cJ25_getChars 68 = .ok (.bastore, 1) := dk_84 (dk_at dksJ25_getChars_2 21 rfl rfl)
theorem dJ25_getChars_69 : decode cJ25_getChars 69 = .ok (.goto (-47), 3) := dk_167 255 209 (dk_at dksJ25_getChars_3 0 rfl rfl)
theorem dJ25_getChars_72 : decode cJ25_getChars 72 = .ok (.aload_n 2, 1) := dk_44 (dk_at dksJ25_getChars_3 3 rfl rfl)
theorem dJ25_getChars_73 : decode cJ25_getChars 73 = .ok (.iinc 5 (-1), 3) := dk_132 5 255 (dk_at dksJ25_getChars_3 4 rfl rfl)
theorem dJ25_getChars_76 : decode cJ25_getChars 76 = .ok (.iload 5, 2) := dk_21 5 (dk_at dksJ25_getChars_3 7 rfl rfl)
theorem dJ25_getChars_78 : decode cJ25_getChars 78 = .ok (.getstatic 83, 3) := dk_178 0 83 (dk_at dksJ25_getChars_3 9 rfl rfl)
theorem dJ25_getChars_81 : decode cJ25_getChars 81 = .ok (.iload_n 0, 1) := dk_26 (dk_at dksJ25_getChars_3 12 rfl rfl)
theorem dJ25_getChars_82 : decode cJ25_getChars 82 = .ok (.ineg, 1) := dk_116 (dk_at dksJ25_getChars_3 13 rfl rfl)
theorem dJ25_getChars_83 : decode cJ25_getChars 83 = .ok (.baload, 1) := dk_51 (dk_at dksJ25_getChars_3 14 rfl rfl)
theorem dJ25_getChars_84 : decode cJ25_getChars 84 = .ok (.bastore, 1) := dk_84 (dk_at dksJ25_getChars_3 15 rfl rfl)
theorem dJ25_getChars_85 : decode cJ25_getChars 85 = .ok (.iload_n 0, 1) := dk_26 (dk_at dksJ25_getChars_3 16 rfl rfl)
theorem dJ25_getChars_86 : decode cJ25_getChars 86 = .ok (.bipush (-9), 2) := dk_16 247 (dk_at dksJ25_getChars_3 17 rfl rfl)
theorem dJ25_getChars_88 : decode cJ25_getChars 88 = .ok (.if_icmp .ge 16, 3) := dk_162 0 16 (dk_at dksJ25_getChars_3 19 rfl rfl)
theorem dJ25_getChars_91 : decode cJ25_getChars 91 = .ok (.aload_n 2, 1) := dk_44 (dk_at dksJ25_getChars_3 22 rfl rfl)
theorem dJ25_getChars_92 : decode cJ25_getChars 92 = .ok (.iinc 5 (-1), 3) := dk_132 5 255 (dk_at dksJ25_getChars_4 0 rfl rfl)
theorem dJ25_getChars_95 : decode cJ25_getChars 95 = .ok (.iload 5, 2) := dk_21 5 (dk_at dksJ25_getChars_4 3 rfl rfl)
theorem dJ25_getChars_97 : decode cJ25_getChars 97 = .ok (.getstatic 87, 3) := dk_178 0 87 (dk_at dksJ25_getChars_4 5 rfl rfl)
theorem dJ25_getChars_100 : decode cJ25_getChars 100 = .ok (.iload_n 0, 1) := dk_26 (dk_at dksJ25_getChars_4 8 rfl rfl)
theorem dJ25_getChars_101 : decode cJ25_getChars 101 = .ok (.ineg, 1) := dk_116 (dk_at dksJ25_getChars_4 9 rfl rfl)
theorem dJ25_getChars_102 : decode cJ25_getChars 102 = .ok (.baload, 1) := dk_51 (dk_at dksJ25_getChars_4 10 rfl rfl)
theorem dJ25_getChars_103 : decode cJ25_getChars 103 = .ok (.bastore, 1) := dk_84 (dk_at dksJ25_getChars_4 11 rfl rfl)
theorem dJ25_getChars_104 : decode cJ25_getChars 104 = .ok (.iload 6, 2) := dk_21 6 (dk_at dksJ25_getChars_4 12 rfl rfl)
theorem dJ25_getChars_106 : decode cJ25_getChars 106 = .ok (.ifCond .eq 12, 3) := dk_153 0 12 (dk_at dksJ25_getChars_4 14 rfl rfl)
theorem dJ25_getChars_109 : decode cJ25_getChars 109 = .ok (.aload_n 2, 1) := dk_44 (dk_at dksJ25_getChars_4 17 rfl rfl)
theorem dJ25_getChars_110 : decode cJ25_getChars 110 = .ok (.iinc 5 (-1), 3) := dk_132 5 255 (dk_at dksJ25_getChars_4 18 rfl rfl)
theorem dJ25_getChars_113 : decode cJ25_getChars 113 = .ok (.iload 5, 2) := dk_21 5 (dk_at dksJ25_getChars_4 21 rfl rfl)
theorem dJ25_getChars_115 : decode cJ25_getChars 115 = .ok (.bipush 45, 2) := dk_16 45 (dk_at dksJ25_getChars_5 0 rfl rfl)
theorem dJ25_getChars_117 : decode cJ25_getChars 117 = .ok (.bastore, 1) := dk_84 (dk_at dksJ25_getChars_5 2 rfl rfl)
theorem dJ25_getChars_118 : decode cJ25_getChars 118 = .ok (.iload 5, 2) := dk_21 5 (dk_at dksJ25_getChars_5 3 rfl rfl)
theorem dJ25_getChars_120 : decode cJ25_getChars 120 = .ok (.ireturn, 1) := dk_172 (dk_at dksJ25_getChars_5 5 rfl rfl)
theorem q120 : (Jvm.Cond.initialized "java/lang/Integer") ∈ lw_all := lw_g (lw_at lw_m1 33 rfl) rfl
theorem q466 : (Jvm.Cond.selects "java/lang/Integer" ({ cls := "java/lang/Object", name := "getClass", desc := "()Ljava/lang/Class;" } : Jvm.MethodName) ({ cls := "java/lang/Object", name := "getClass", desc := "()Ljava/lang/Class;" } : Jvm.MethodName)) ∈ lw_all := lw_g (lw_at lw_m2 139 rfl) rfl
theorem q810 : (Jvm.Cond.static ({ cls := "java/lang/Integer", name := "numberOfLeadingZeros", desc := "(I)I" } : Jvm.MethodName)) ∈ lw_all := lw_g (lw_at lw_m4 3 rfl) rfl
theorem q811 : (Jvm.Cond.code ({ cls := "java/lang/Integer", name := "numberOfLeadingZeros", desc := "(I)I" } : Jvm.MethodName) prog_20_method_47_code (2 : Nat) (Option.some Jvm.ClassFile.FieldType.int)) ∈ lw_all := lw_g (lw_at lw_m4 4 rfl) rfl
theorem q812 : (Jvm.Cond.constant "java/lang/Integer" (264 : Nat) (65536 : Int32)) ∈ lw_all := lw_g (lw_at lw_m4 5 rfl) rfl
theorem q996 : (Jvm.Cond.selects "java/lang/Integer" ({ cls := "java/lang/Object", name := "hashCode", desc := "()I" } : Jvm.MethodName) ({ cls := "java/lang/Integer", name := "hashCode", desc := "()I" } : Jvm.MethodName)) ∈ lw_all := lw_g (lw_at lw_m4 189 rfl) rfl
theorem q997 : (Jvm.Cond.instanceMethod ({ cls := "java/lang/Integer", name := "hashCode", desc := "()I" } : Jvm.MethodName)) ∈ lw_all := lw_g (lw_at lw_m4 190 rfl) rfl
theorem q998 : (Jvm.Cond.code ({ cls := "java/lang/Integer", name := "hashCode", desc := "()I" } : Jvm.MethodName) prog_20_method_32_code (1 : Nat) (Option.some Jvm.ClassFile.FieldType.int)) ∈ lw_all := lw_g (lw_at lw_m4 191 rfl) rfl
theorem q999 : (Jvm.Cond.methodLink "java/lang/Integer" (208 : Nat) ({ cls := "java/lang/Integer", name := "hashCode", desc := "(I)I" } : Jvm.MethodName)) ∈ lw_all := lw_g (lw_at lw_m4 192 rfl) rfl
theorem q1000 : (Jvm.Cond.static ({ cls := "java/lang/Integer", name := "hashCode", desc := "(I)I" } : Jvm.MethodName)) ∈ lw_all := lw_g (lw_at lw_m4 193 rfl) rfl
theorem q1001 : (Jvm.Cond.code ({ cls := "java/lang/Integer", name := "hashCode", desc := "(I)I" } : Jvm.MethodName) prog_20_method_33_code (1 : Nat) (Option.some Jvm.ClassFile.FieldType.int)) ∈ lw_all := lw_g (lw_at lw_m4 194 rfl) rfl
theorem q1174 : (Jvm.Cond.castable "java/lang/Integer" "java/lang/Comparable") ∈ lw_tbl := lw_at lw_m5 127 rfl
theorem q1175 : (Jvm.Cond.selects "java/lang/Integer" ({ cls := "java/lang/Comparable", name := "compareTo", desc := "(Ljava/lang/Object;)I" } : Jvm.MethodName) ({ cls := "java/lang/Integer", name := "compareTo", desc := "(Ljava/lang/Object;)I" } : Jvm.MethodName)) ∈ lw_all := lw_g (lw_at lw_m5 128 rfl) rfl
theorem q1176 : (Jvm.Cond.unhidden "java/lang/Integer" "compareTo" "(Ljava/lang/Object;)I") ∈ lw_tbl := lw_at lw_m5 129 rfl
theorem q1177 : (Jvm.Cond.instanceMethod ({ cls := "java/lang/Integer", name := "compareTo", desc := "(Ljava/lang/Object;)I" } : Jvm.MethodName)) ∈ lw_all := lw_g (lw_at lw_m5 130 rfl) rfl
theorem q1178 : (Jvm.Cond.publicMethod ({ cls := "java/lang/Integer", name := "compareTo", desc := "(Ljava/lang/Object;)I" } : Jvm.MethodName)) ∈ lw_tbl := lw_at lw_m5 131 rfl
theorem q1179 : (Jvm.Cond.code ({ cls := "java/lang/Integer", name := "compareTo", desc := "(Ljava/lang/Object;)I" } : Jvm.MethodName) prog_20_method_63_code (2 : Nat) (Option.some Jvm.ClassFile.FieldType.int)) ∈ lw_all := lw_g (lw_at lw_m5 132 rfl) rfl
theorem q1180 : (Jvm.Cond.classLink "java/lang/Integer" (1 : Nat) "java/lang/Integer") ∈ lw_all := lw_g (lw_at lw_m5 133 rfl) rfl
theorem q1181 : (Jvm.Cond.methodLink "java/lang/Integer" (284 : Nat) ({ cls := "java/lang/Integer", name := "compareTo", desc := "(Ljava/lang/Integer;)I" } : Jvm.MethodName)) ∈ lw_all := lw_g (lw_at lw_m5 134 rfl) rfl
theorem q1182 : (Jvm.Cond.instanceMethod ({ cls := "java/lang/Integer", name := "compareTo", desc := "(Ljava/lang/Integer;)I" } : Jvm.MethodName)) ∈ lw_all := lw_g (lw_at lw_m5 135 rfl) rfl
theorem q1183 : (Jvm.Cond.selects "java/lang/Integer" ({ cls := "java/lang/Integer", name := "compareTo", desc := "(Ljava/lang/Integer;)I" } : Jvm.MethodName) ({ cls := "java/lang/Integer", name := "compareTo", desc := "(Ljava/lang/Integer;)I" } : Jvm.MethodName)) ∈ lw_all := lw_g (lw_at lw_m5 136 rfl) rfl
theorem q1184 : (Jvm.Cond.code ({ cls := "java/lang/Integer", name := "compareTo", desc := "(Ljava/lang/Integer;)I" } : Jvm.MethodName) prog_20_method_39_code (2 : Nat) (Option.some Jvm.ClassFile.FieldType.int)) ∈ lw_all := lw_g (lw_at lw_m5 137 rfl) rfl
theorem q1185 : (Jvm.Cond.methodLink "java/lang/Integer" (259 : Nat) ({ cls := "java/lang/Integer", name := "compare", desc := "(II)I" } : Jvm.MethodName)) ∈ lw_all := lw_g (lw_at lw_m5 138 rfl) rfl
theorem q1186 : (Jvm.Cond.static ({ cls := "java/lang/Integer", name := "compare", desc := "(II)I" } : Jvm.MethodName)) ∈ lw_all := lw_g (lw_at lw_m5 139 rfl) rfl
theorem q1187 : (Jvm.Cond.code ({ cls := "java/lang/Integer", name := "compare", desc := "(II)I" } : Jvm.MethodName) prog_20_method_40_code (2 : Nat) (Option.some Jvm.ClassFile.FieldType.int)) ∈ lw_all := lw_g (lw_at lw_m5 140 rfl) rfl
theorem q1288 : (Jvm.Cond.static ({ cls := "java/lang/Integer", name := "numberOfTrailingZeros", desc := "(I)I" } : Jvm.MethodName)) ∈ lw_all := lw_g (lw_at lw_m6 1 rfl) rfl
theorem q1289 : (Jvm.Cond.code ({ cls := "java/lang/Integer", name := "numberOfTrailingZeros", desc := "(I)I" } : Jvm.MethodName) prog_20_method_48_code (2 : Nat) (Option.some Jvm.ClassFile.FieldType.int)) ∈ lw_all := lw_g (lw_at lw_m6 2 rfl) rfl
theorem q1420 : (Jvm.Cond.selects "java/lang/Integer" ({ cls := "java/lang/Object", name := "equals", desc := "(Ljava/lang/Object;)Z" } : Jvm.MethodName) ({ cls := "java/lang/Integer", name := "equals", desc := "(Ljava/lang/Object;)Z" } : Jvm.MethodName)) ∈ lw_all := lw_g (lw_at lw_m6 133 rfl) rfl
theorem q1421 : (Jvm.Cond.instanceMethod ({ cls := "java/lang/Integer", name := "equals", desc := "(Ljava/lang/Object;)Z" } : Jvm.MethodName)) ∈ lw_all := lw_g (lw_at lw_m6 134 rfl) rfl
theorem q1422 : (Jvm.Cond.code ({ cls := "java/lang/Integer", name := "equals", desc := "(Ljava/lang/Object;)Z" } : Jvm.MethodName) prog_20_method_34_code (2 : Nat) (Option.some Jvm.ClassFile.FieldType.boolean)) ∈ lw_all := lw_g (lw_at lw_m6 135 rfl) rfl
theorem q1423 : (Jvm.Cond.methodLink "java/lang/Integer" (211 : Nat) ({ cls := "java/lang/Integer", name := "intValue", desc := "()I" } : Jvm.MethodName)) ∈ lw_all := lw_g (lw_at lw_m6 136 rfl) rfl
theorem q1424 : (Jvm.Cond.instanceMethod ({ cls := "java/lang/Integer", name := "intValue", desc := "()I" } : Jvm.MethodName)) ∈ lw_all := lw_g (lw_at lw_m6 137 rfl) rfl
theorem q1425 : (Jvm.Cond.selects "java/lang/Integer" ({ cls := "java/lang/Integer", name := "intValue", desc := "()I" } : Jvm.MethodName) ({ cls := "java/lang/Integer", name := "intValue", desc := "()I" } : Jvm.MethodName)) ∈ lw_all := lw_g (lw_at lw_m6 138 rfl) rfl
theorem q1426 : (Jvm.Cond.code ({ cls := "java/lang/Integer", name := "intValue", desc := "()I" } : Jvm.MethodName) prog_20_method_27_code (1 : Nat) (Option.some Jvm.ClassFile.FieldType.int)) ∈ lw_all := lw_g (lw_at lw_m6 139 rfl) rfl
theorem q1624 : (Jvm.Cond.static ({ cls := "java/lang/Integer", name := "valueOf", desc := "(I)Ljava/lang/Integer;" } : Jvm.MethodName)) ∈ lw_all := lw_g (lw_at lw_m7 97 rfl) rfl
theorem q1625 : (Jvm.Cond.code ({ cls := "java/lang/Integer", name := "valueOf", desc := "(I)Ljava/lang/Integer;" } : Jvm.MethodName) prog_20_method_22_code (1 : Nat) (Option.some (Jvm.ClassFile.FieldType.object "java/lang/Integer"))) ∈ lw_all := lw_g (lw_at lw_m7 98 rfl) rfl
theorem q1626 : (Jvm.Cond.fieldLink "java/lang/Integer" (191 : Nat) "java/lang/Integer$IntegerCache" "high" "I") ∈ lw_all := lw_g (lw_at lw_m7 99 rfl) rfl
theorem q1628 : (Jvm.Cond.fieldLink "java/lang/Integer" (195 : Nat) "java/lang/Integer$IntegerCache" "cache" "[Ljava/lang/Integer;") ∈ lw_all := lw_g (lw_at lw_m7 101 rfl) rfl
theorem q1630 : (Jvm.Cond.instantiable "java/lang/Integer" (1 : Nat)) ∈ lw_all := lw_g (lw_at lw_m7 103 rfl) rfl
theorem q1631 : (Jvm.Cond.methodLink "java/lang/Integer" (199 : Nat) ({ cls := "java/lang/Integer", name := "<init>", desc := "(I)V" } : Jvm.MethodName)) ∈ lw_all := lw_g (lw_at lw_m7 104 rfl) rfl
theorem q1632 : (Jvm.Cond.instanceMethod ({ cls := "java/lang/Integer", name := "<init>", desc := "(I)V" } : Jvm.MethodName)) ∈ lw_all := lw_g (lw_at lw_m7 105 rfl) rfl
theorem q1633 : (Jvm.Cond.code ({ cls := "java/lang/Integer", name := "<init>", desc := "(I)V" } : Jvm.MethodName) prog_20_method_23_code (2 : Nat) (Option.none : Option Jvm.ClassFile.FieldType)) ∈ lw_all := lw_g (lw_at lw_m7 106 rfl) rfl
theorem q1634 : (Jvm.Cond.methodLink "java/lang/Integer" (202 : Nat) ({ cls := "java/lang/Number", name := "<init>", desc := "()V" } : Jvm.MethodName)) ∈ lw_all := lw_g (lw_at lw_m7 107 rfl) rfl
theorem q1638 : (Jvm.Cond.fieldLink "java/lang/Integer" (205 : Nat) "java/lang/Integer" "value" "I") ∈ lw_all := lw_g (lw_at lw_m7 111 rfl) rfl
theorem q1639 : (Jvm.Cond.laysFinal "java/lang/Integer" "java/lang/Integer" "value" "I") ∈ lw_all := lw_g (lw_at lw_m7 112 rfl) rfl
theorem q1640 : (Jvm.Cond.soleField "java/lang/Integer" "value") ∈ lw_all := lw_g (lw_at lw_m7 113 rfl) rfl
theorem q1641 : (Jvm.Cond.superclass "java/lang/Integer" "java/lang/Number") ∈ lw_all := lw_g (lw_at lw_m7 114 rfl) rfl
theorem q2251 : (Jvm.Cond.static ({ cls := "java/lang/Integer", name := "stringSize", desc := "(I)I" } : Jvm.MethodName)) ∈ lw_all := lw_g (lw_at lw_m10 4 rfl) rfl
theorem q2252 : (Jvm.Cond.code ({ cls := "java/lang/Integer", name := "stringSize", desc := "(I)I" } : Jvm.MethodName) prog_20_method_13_code (4 : Nat) (Option.some Jvm.ClassFile.FieldType.int)) ∈ lw_all := lw_g (lw_at lw_m10 5 rfl) rfl
theorem q2254 : (Jvm.Cond.static ({ cls := "java/lang/Integer", name := "getChars", desc := "(II[B)I" } : Jvm.MethodName)) ∈ lw_all := lw_g (lw_at lw_m10 7 rfl) rfl
theorem q2255 : (Jvm.Cond.code ({ cls := "java/lang/Integer", name := "getChars", desc := "(II[B)I" } : Jvm.MethodName) prog_20_method_12_code (7 : Nat) (Option.some Jvm.ClassFile.FieldType.int)) ∈ lw_all := lw_g (lw_at lw_m10 8 rfl) rfl
theorem q2256 : (Jvm.Cond.fieldLink "java/lang/Integer" (83 : Nat) "java/lang/Integer" "DigitOnes" "[B") ∈ lw_all := lw_g (lw_at lw_m10 9 rfl) rfl
theorem q2257 : (Jvm.Cond.laysStatic "java/lang/Integer" "DigitOnes" "[B") ∈ lw_tbl := lw_at lw_m10 10 rfl
theorem q2258 : (Jvm.Cond.fieldLink "java/lang/Integer" (87 : Nat) "java/lang/Integer" "DigitTens" "[B") ∈ lw_all := lw_g (lw_at lw_m10 11 rfl) rfl
theorem q2259 : (Jvm.Cond.laysStatic "java/lang/Integer" "DigitTens" "[B") ∈ lw_tbl := lw_at lw_m10 12 rfl
theorem q2907 : (Jvm.Cond.castable "java/lang/Integer" "java/lang/Object") ∈ lw_tbl := lw_at lw_m12 180 rfl
theorem in_J25 : ∀ w ∈ wsJ250, w ∈ lw_all := lw_in wsJ250 [1639] (by decide +kernel) (by decide +kernel)
/-! java/util/AbstractSequentialList -/
set_option maxRecDepth 100000
def RJ26 : String := "java/util/AbstractSequentialList"
abbrev cJ26_init : ByteArray := prog_38_method_1_code
def yJ26_init : MethodName := ⟨RJ26, "<init>", "()V"⟩
theorem dJ26_init_0 : decode cJ26_init 0 = .ok (.aload_n 0, 1) := by decide +kernel
theorem dJ26_init_1 : decode cJ26_init 1 = .ok (.invokespecial 1, 3) := by decide +kernel
theorem dJ26_init_4 : decode cJ26_init 4 = .ok (.return_, 1) := by decide +kernel
theorem q121 : (Jvm.Cond.initialized "java/util/AbstractSequentialList") ∈ lw_all := lw_g (lw_at lw_m1 34 rfl) rfl
theorem q872 : (Jvm.Cond.instanceMethod ({ cls := "java/util/AbstractSequentialList", name := "<init>", desc := "()V" } : Jvm.MethodName)) ∈ lw_all := lw_g (lw_at lw_m4 65 rfl) rfl
theorem q873 : (Jvm.Cond.code ({ cls := "java/util/AbstractSequentialList", name := "<init>", desc := "()V" } : Jvm.MethodName) prog_38_method_1_code (1 : Nat) (Option.none : Option Jvm.ClassFile.FieldType)) ∈ lw_all := lw_g (lw_at lw_m4 66 rfl) rfl
theorem q874 : (Jvm.Cond.methodLink "java/util/AbstractSequentialList" (1 : Nat) ({ cls := "java/util/AbstractList", name := "<init>", desc := "()V" } : Jvm.MethodName)) ∈ lw_all := lw_g (lw_at lw_m4 67 rfl) rfl
/-! java/util/LinkedList -/
set_option maxRecDepth 100000
def RJ27 : String := "java/util/LinkedList"
def TJ27 : u_T := fun k => match k with
  | 0 => ("java/util/AbstractList", "modCount", "I", false)
  | 1 => ("java/util/LinkedList", "size", "I", false)
  | 2 => ("java/util/LinkedList", "first", "Ljava/util/LinkedList$Node;", false)
  | _ => ("java/util/LinkedList", "last", "Ljava/util/LinkedList$Node;", false)
def tyJ27 : Nat → FieldType := fun k => match k with
  | 0 => .int
  | 1 => .int
  | 2 => .object "java/util/LinkedList$Node"
  | _ => .object "java/util/LinkedList$Node"
abbrev wsJ270 : List Cond := u_ws RJ27 TJ27 4
theorem nmJ27 : ∀ a, a < 4 → ∀ b, b < 4 → a ≠ b → (TJ27 a).2.1 ≠ (TJ27 b).2.1 := by decide +kernel
theorem tyJ27_ok : ∀ k, k < 4 → parseFieldDescriptor (TJ27 k).2.2.1 = some (tyJ27 k) := by decide +kernel
abbrev cJ27_init : ByteArray := prog_61_method_1_code
def yJ27_init : MethodName := ⟨RJ27, "<init>", "()V"⟩
def dkwJ27_init_0 : List UInt8 := [42, 183, 0, 1, 42, 3, 181, 0, 7, 177]
abbrev dktJ27_init_0 : List UInt8 := dkwJ27_init_0 ++ []
theorem dksJ27_init_0 : cJ27_init.data.toList.drop 0 = dktJ27_init_0 := by decide +kernel
theorem dJ27_init_0 : decode cJ27_init 0 = .ok (.aload_n 0, 1) := dk_42 (dk_at dksJ27_init_0 0 rfl rfl)
theorem dJ27_init_1 : decode cJ27_init 1 = .ok (.invokespecial 1, 3) := dk_183 0 1 (dk_at dksJ27_init_0 1 rfl rfl)
theorem dJ27_init_4 : decode cJ27_init 4 = .ok (.aload_n 0, 1) := dk_42 (dk_at dksJ27_init_0 4 rfl rfl)
theorem dJ27_init_5 : decode cJ27_init 5 = .ok (.iconst 0, 1) := dk_3 (dk_at dksJ27_init_0 5 rfl rfl)
theorem dJ27_init_6 : decode cJ27_init 6 = .ok (.putfield 7, 3) := dk_181 0 7 (dk_at dksJ27_init_0 6 rfl rfl)
theorem dJ27_init_9 : decode cJ27_init 9 = .ok (.return_, 1) := dk_177 (dk_at dksJ27_init_0 9 rfl rfl)
abbrev cJ27_addLast : ByteArray := prog_61_method_14_code
def yJ27_addLast : MethodName := ⟨RJ27, "addLast", "(Ljava/lang/Object;)V"⟩
def dkwJ27_addLast_0 : List UInt8 := [42, 43, 182, 0, 57, 177]
abbrev dktJ27_addLast_0 : List UInt8 := dkwJ27_addLast_0 ++ []
theorem dksJ27_addLast_0 : cJ27_addLast.data.toList.drop 0 = dktJ27_addLast_0 := by decide +kernel
theorem dJ27_addLast_0 : decode cJ27_addLast 0 = .ok (.aload_n 0, 1) := dk_42 (dk_at dksJ27_addLast_0 0 rfl rfl)
theorem dJ27_addLast_1 : decode cJ27_addLast 1 = .ok (.aload_n 1, 1) := dk_43 (dk_at dksJ27_addLast_0 1 rfl rfl)
theorem dJ27_addLast_2 : decode cJ27_addLast 2 = .ok (.invokevirtual 57, 3) := dk_182 0 57 (dk_at dksJ27_addLast_0 2 rfl rfl)
theorem dJ27_addLast_5 : decode cJ27_addLast 5 = .ok (.return_, 1) := dk_177 (dk_at dksJ27_addLast_0 5 rfl rfl)
abbrev cJ27_linkLast : ByteArray := prog_61_method_4_code
def yJ27_linkLast : MethodName := ⟨RJ27, "linkLast", "(Ljava/lang/Object;)V"⟩
def dkwJ27_linkLast_2 : List UInt8 := [181, 0, 7, 42, 89, 180, 0, 33, 4, 96, 181, 0, 33, 177]
abbrev dktJ27_linkLast_2 : List UInt8 := dkwJ27_linkLast_2 ++ []
def dkwJ27_linkLast_1 : List UInt8 := [199, 0, 11, 42, 45, 181, 0, 18, 167, 0, 8, 44, 45, 181, 0, 36, 42, 89, 180, 0, 7, 4, 96]
abbrev dktJ27_linkLast_1 : List UInt8 := dkwJ27_linkLast_1 ++ dktJ27_linkLast_2
def dkwJ27_linkLast_0 : List UInt8 := [42, 180, 0, 27, 77, 187, 0, 22, 89, 44, 43, 1, 183, 0, 24, 78, 42, 45, 181, 0, 27, 44]
abbrev dktJ27_linkLast_0 : List UInt8 := dkwJ27_linkLast_0 ++ dktJ27_linkLast_1
theorem dksJ27_linkLast_0 : cJ27_linkLast.data.toList.drop 0 = dktJ27_linkLast_0 := by decide +kernel
theorem dksJ27_linkLast_1 : cJ27_linkLast.data.toList.drop 22 = dktJ27_linkLast_1 := dk_seg dksJ27_linkLast_0 22 rfl rfl
theorem dksJ27_linkLast_2 : cJ27_linkLast.data.toList.drop 45 = dktJ27_linkLast_2 := dk_seg dksJ27_linkLast_1 23 rfl rfl
theorem dJ27_linkLast_0 : decode cJ27_linkLast 0 = .ok (.aload_n 0, 1) := dk_42 (dk_at dksJ27_linkLast_0 0 rfl rfl)
theorem dJ27_linkLast_1 : decode cJ27_linkLast 1 = .ok (.getfield 27, 3) := dk_180 0 27 (dk_at dksJ27_linkLast_0 1 rfl rfl)
theorem dJ27_linkLast_4 : decode cJ27_linkLast 4 = .ok (.astore_n 2, 1) := dk_77 (dk_at dksJ27_linkLast_0 4 rfl rfl)
theorem dJ27_linkLast_5 : decode cJ27_linkLast 5 = .ok (.new 22, 3) := dk_187 0 22 (dk_at dksJ27_linkLast_0 5 rfl rfl)
theorem dJ27_linkLast_8 : decode cJ27_linkLast 8 = .ok (.dup, 1) := dk_89 (dk_at dksJ27_linkLast_0 8 rfl rfl)
theorem dJ27_linkLast_9 : decode cJ27_linkLast 9 = .ok (.aload_n 2, 1) := dk_44 (dk_at dksJ27_linkLast_0 9 rfl rfl)
theorem dJ27_linkLast_10 : decode cJ27_linkLast 10 = .ok (.aload_n 1, 1) := dk_43 (dk_at dksJ27_linkLast_0 10 rfl rfl)
theorem dJ27_linkLast_11 : decode cJ27_linkLast 11 = .ok (.aconst_null, 1) := dk_1 (dk_at dksJ27_linkLast_0 11 rfl rfl)
theorem dJ27_linkLast_12 : decode cJ27_linkLast 12 = .ok (.invokespecial 24, 3) := dk_183 0 24 (dk_at dksJ27_linkLast_0 12 rfl rfl)
theorem dJ27_linkLast_15 : decode cJ27_linkLast 15 = .ok (.astore_n 3, 1) := dk_78 (dk_at dksJ27_linkLast_0 15 rfl rfl)
theorem dJ27_linkLast_16 : decode cJ27_linkLast 16 = .ok (.aload_n 0, 1) := dk_42 (dk_at dksJ27_linkLast_0 16 rfl rfl)
theorem dJ27_linkLast_17 : decode cJ27_linkLast 17 = .ok (.aload_n 3, 1) := dk_45 (dk_at dksJ27_linkLast_0 17 rfl rfl)
theorem dJ27_linkLast_18 : decode cJ27_linkLast 18 = .ok (.putfield 27, 3) := dk_181 0 27 (dk_at dksJ27_linkLast_0 18 rfl rfl)
theorem dJ27_linkLast_21 : decode cJ27_linkLast 21 = .ok (.aload_n 2, 1) := dk_44 (dk_at dksJ27_linkLast_0 21 rfl rfl)
theorem dJ27_linkLast_22 : decode cJ27_linkLast 22 = .ok (.ifnonnull 11, 3) := dk_199 0 11 (dk_at dksJ27_linkLast_1 0 rfl rfl)
theorem dJ27_linkLast_25 : decode cJ27_linkLast 25 = .ok (.aload_n 0, 1) := dk_42 (dk_at dksJ27_linkLast_1 3 rfl rfl)
theorem dJ27_linkLast_26 : decode cJ27_linkLast 26 = .ok (.aload_n 3, 1) := dk_45 (dk_at dksJ27_linkLast_1 4 rfl rfl)
theorem dJ27_linkLast_27 : decode cJ27_linkLast 27 = .ok (.putfield 18, 3) := dk_181 0 18 (dk_at dksJ27_linkLast_1 5 rfl rfl)
theorem dJ27_linkLast_30 : decode cJ27_linkLast 30 = .ok (.goto 8, 3) := dk_167 0 8 (dk_at dksJ27_linkLast_1 8 rfl rfl)
theorem dJ27_linkLast_33 : decode cJ27_linkLast 33 = .ok (.aload_n 2, 1) := dk_44 (dk_at dksJ27_linkLast_1 11 rfl rfl)
theorem dJ27_linkLast_34 : decode cJ27_linkLast 34 = .ok (.aload_n 3, 1) := dk_45 (dk_at dksJ27_linkLast_1 12 rfl rfl)
theorem dJ27_linkLast_35 : decode cJ27_linkLast 35 = .ok (.putfield 36, 3) := dk_181 0 36 (dk_at dksJ27_linkLast_1 13 rfl rfl)
theorem dJ27_linkLast_38 : decode cJ27_linkLast 38 = .ok (.aload_n 0, 1) := dk_42 (dk_at dksJ27_linkLast_1 16 rfl rfl)
theorem dJ27_linkLast_39 : decode cJ27_linkLast 39 = .ok (.dup, 1) := dk_89 (dk_at dksJ27_linkLast_1 17 rfl rfl)
theorem dJ27_linkLast_40 : decode cJ27_linkLast 40 = .ok (.getfield 7, 3) := dk_180 0 7 (dk_at dksJ27_linkLast_1 18 rfl rfl)
theorem dJ27_linkLast_43 : decode cJ27_linkLast 43 = .ok (.iconst 1, 1) := dk_4 (dk_at dksJ27_linkLast_1 21 rfl rfl)
theorem dJ27_linkLast_44 : decode cJ27_linkLast 44 = .ok (.iadd, 1) := dk_96 (dk_at dksJ27_linkLast_1 22 rfl rfl)
theorem dJ27_linkLast_45 : decode cJ27_linkLast 45 = .ok (.putfield 7, 3) := dk_181 0 7 (dk_at dksJ27_linkLast_2 0 rfl rfl)
theorem dJ27_linkLast_48 : decode cJ27_linkLast 48 = .ok (.aload_n 0, 1) := dk_42 (dk_at dksJ27_linkLast_2 3 rfl rfl)
theorem dJ27_linkLast_49 : decode cJ27_linkLast 49 = .ok (.dup, 1) := dk_89 (dk_at dksJ27_linkLast_2 4 rfl rfl)
theorem dJ27_linkLast_50 : decode cJ27_linkLast 50 = .ok (.getfield 33, 3) := dk_180 0 33 (dk_at dksJ27_linkLast_2 5 rfl rfl)
theorem dJ27_linkLast_53 : decode cJ27_linkLast 53 = .ok (.iconst 1, 1) := dk_4 (dk_at dksJ27_linkLast_2 8 rfl rfl)
theorem dJ27_linkLast_54 : decode cJ27_linkLast 54 = .ok (.iadd, 1) := dk_96 (dk_at dksJ27_linkLast_2 9 rfl rfl)
theorem dJ27_linkLast_55 : decode cJ27_linkLast 55 = .ok (.putfield 33, 3) := dk_181 0 33 (dk_at dksJ27_linkLast_2 10 rfl rfl)
theorem dJ27_linkLast_58 : decode cJ27_linkLast 58 = .ok (.return_, 1) := dk_177 (dk_at dksJ27_linkLast_2 13 rfl rfl)
abbrev cJ27_size : ByteArray := prog_61_method_16_code
def yJ27_size : MethodName := ⟨RJ27, "size", "()I"⟩
theorem dJ27_size_0 : decode cJ27_size 0 = .ok (.aload_n 0, 1) := by decide +kernel
theorem dJ27_size_1 : decode cJ27_size 1 = .ok (.getfield 7, 3) := by decide +kernel
theorem dJ27_size_4 : decode cJ27_size 4 = .ok (.ireturn, 1) := by decide +kernel
abbrev cJ27_removeFirst : ByteArray := prog_61_method_11_code
def yJ27_removeFirst : MethodName := ⟨RJ27, "removeFirst", "()Ljava/lang/Object;"⟩
def dkwJ27_removeFirst_0 : List UInt8 := [42, 180, 0, 18, 76, 43, 199, 0, 11, 187, 0, 43, 89, 183, 0, 45, 191, 42, 43, 182, 0, 46, 176]
abbrev dktJ27_removeFirst_0 : List UInt8 := dkwJ27_removeFirst_0 ++ []
theorem dksJ27_removeFirst_0 : cJ27_removeFirst.data.toList.drop 0 = dktJ27_removeFirst_0 := by decide +kernel
theorem dJ27_removeFirst_0 : decode cJ27_removeFirst 0 = .ok (.aload_n 0, 1) := dk_42 (dk_at dksJ27_removeFirst_0 0 rfl rfl)
theorem dJ27_removeFirst_1 : decode cJ27_removeFirst 1 = .ok (.getfield 18, 3) := dk_180 0 18 (dk_at dksJ27_removeFirst_0 1 rfl rfl)
theorem dJ27_removeFirst_4 : decode cJ27_removeFirst 4 = .ok (.astore_n 1, 1) := dk_76 (dk_at dksJ27_removeFirst_0 4 rfl rfl)
theorem dJ27_removeFirst_5 : decode cJ27_removeFirst 5 = .ok (.aload_n 1, 1) := dk_43 (dk_at dksJ27_removeFirst_0 5 rfl rfl)
theorem dJ27_removeFirst_6 : decode cJ27_removeFirst 6 = .ok (.ifnonnull 11, 3) := dk_199 0 11 (dk_at dksJ27_removeFirst_0 6 rfl rfl)
theorem dJ27_removeFirst_9 : decode cJ27_removeFirst 9 = .ok (.new 43, 3) := dk_187 0 43 (dk_at dksJ27_removeFirst_0 9 rfl rfl)
theorem dJ27_removeFirst_12 : decode cJ27_removeFirst 12 = .ok (.dup, 1) := dk_89 (dk_at dksJ27_removeFirst_0 12 rfl rfl)
theorem dJ27_removeFirst_13 : decode cJ27_removeFirst 13 = .ok (.invokespecial 45, 3) := dk_183 0 45 (dk_at dksJ27_removeFirst_0 13 rfl rfl)
theorem dJ27_removeFirst_16 : decode cJ27_removeFirst 16 = .ok (.athrow, 1) := dk_191 (dk_at dksJ27_removeFirst_0 16 rfl rfl)
theorem dJ27_removeFirst_17 : decode cJ27_removeFirst 17 = .ok (.aload_n 0, 1) := dk_42 (dk_at dksJ27_removeFirst_0 17 rfl rfl)
theorem dJ27_removeFirst_18 : decode cJ27_removeFirst 18 = .ok (.aload_n 1, 1) := dk_43 (dk_at dksJ27_removeFirst_0 18 rfl rfl)
theorem dJ27_removeFirst_19 : decode cJ27_removeFirst 19 = .ok (.invokevirtual 46, 3) := dk_182 0 46 (dk_at dksJ27_removeFirst_0 19 rfl rfl)
theorem dJ27_removeFirst_22 : decode cJ27_removeFirst 22 = .ok (.areturn, 1) := dk_176 (dk_at dksJ27_removeFirst_0 22 rfl rfl)
abbrev cJ27_unlinkFirst : ByteArray := prog_61_method_6_code
def yJ27_unlinkFirst : MethodName := ⟨RJ27, "unlinkFirst", "(Ljava/util/LinkedList$Node;)Ljava/lang/Object;"⟩
def dkwJ27_unlinkFirst_2 : List UInt8 := [180, 0, 7, 4, 100, 181, 0, 7, 42, 89, 180, 0, 33, 4, 96, 181, 0, 33, 44, 176]
abbrev dktJ27_unlinkFirst_2 : List UInt8 := dkwJ27_unlinkFirst_2 ++ []
def dkwJ27_unlinkFirst_1 : List UInt8 := [181, 0, 18, 45, 199, 0, 11, 42, 1, 181, 0, 27, 167, 0, 8, 45, 1, 181, 0, 30, 42, 89]
abbrev dktJ27_unlinkFirst_1 : List UInt8 := dkwJ27_unlinkFirst_1 ++ dktJ27_unlinkFirst_2
def dkwJ27_unlinkFirst_0 : List UInt8 := [43, 180, 0, 39, 77, 43, 180, 0, 36, 78, 43, 1, 181, 0, 39, 43, 1, 181, 0, 36, 42, 45]
abbrev dktJ27_unlinkFirst_0 : List UInt8 := dkwJ27_unlinkFirst_0 ++ dktJ27_unlinkFirst_1
theorem dksJ27_unlinkFirst_0 : cJ27_unlinkFirst.data.toList.drop 0 = dktJ27_unlinkFirst_0 := by decide +kernel
theorem dksJ27_unlinkFirst_1 : cJ27_unlinkFirst.data.toList.drop 22 = dktJ27_unlinkFirst_1 := dk_seg dksJ27_unlinkFirst_0 22 rfl rfl
theorem dksJ27_unlinkFirst_2 : cJ27_unlinkFirst.data.toList.drop 44 = dktJ27_unlinkFirst_2 := dk_seg dksJ27_unlinkFirst_1 22 rfl rfl
theorem dJ27_unlinkFirst_0 : decode cJ27_unlinkFirst 0 = .ok (.aload_n 1, 1) := dk_43 (dk_at dksJ27_unlinkFirst_0 0 rfl rfl)
theorem dJ27_unlinkFirst_1 : decode cJ27_unlinkFirst 1 = .ok (.getfield 39, 3) := dk_180 0 39 (dk_at dksJ27_unlinkFirst_0 1 rfl rfl)
theorem dJ27_unlinkFirst_4 : decode cJ27_unlinkFirst 4 = .ok (.astore_n 2, 1) := dk_77 (dk_at dksJ27_unlinkFirst_0 4 rfl rfl)
theorem dJ27_unlinkFirst_5 : decode cJ27_unlinkFirst 5 = .ok (.aload_n 1, 1) := dk_43 (dk_at dksJ27_unlinkFirst_0 5 rfl rfl)
theorem dJ27_unlinkFirst_6 : decode cJ27_unlinkFirst 6 = .ok (.getfield 36, 3) := dk_180 0 36 (dk_at dksJ27_unlinkFirst_0 6 rfl rfl)
theorem dJ27_unlinkFirst_9 : decode cJ27_unlinkFirst 9 = .ok (.astore_n 3, 1) := dk_78 (dk_at dksJ27_unlinkFirst_0 9 rfl rfl)
theorem dJ27_unlinkFirst_10 : decode cJ27_unlinkFirst 10 = .ok (.aload_n 1, 1) := dk_43 (dk_at dksJ27_unlinkFirst_0 10 rfl rfl)
theorem dJ27_unlinkFirst_11 : decode cJ27_unlinkFirst 11 = .ok (.aconst_null, 1) := dk_1 (dk_at dksJ27_unlinkFirst_0 11 rfl rfl)
theorem dJ27_unlinkFirst_12 : decode cJ27_unlinkFirst 12 = .ok (.putfield 39, 3) := dk_181 0 39 (dk_at dksJ27_unlinkFirst_0 12 rfl rfl)
theorem dJ27_unlinkFirst_15 : decode cJ27_unlinkFirst 15 = .ok (.aload_n 1, 1) := dk_43 (dk_at dksJ27_unlinkFirst_0 15 rfl rfl)
theorem dJ27_unlinkFirst_16 : decode cJ27_unlinkFirst 16 = .ok (.aconst_null, 1) := dk_1 (dk_at dksJ27_unlinkFirst_0 16 rfl rfl)
theorem dJ27_unlinkFirst_17 : decode cJ27_unlinkFirst 17 = .ok (.putfield 36, 3) := dk_181 0 36 (dk_at dksJ27_unlinkFirst_0 17 rfl rfl)
theorem dJ27_unlinkFirst_20 : decode cJ27_unlinkFirst 20 = .ok (.aload_n 0, 1) := dk_42 (dk_at dksJ27_unlinkFirst_0 20 rfl rfl)
theorem dJ27_unlinkFirst_21 : decode cJ27_unlinkFirst 21 = .ok (.aload_n 3, 1) := dk_45 (dk_at dksJ27_unlinkFirst_0 21 rfl rfl)
theorem dJ27_unlinkFirst_22 : decode cJ27_unlinkFirst 22 = .ok (.putfield 18, 3) := dk_181 0 18 (dk_at dksJ27_unlinkFirst_1 0 rfl rfl)
theorem dJ27_unlinkFirst_25 : decode cJ27_unlinkFirst 25 = .ok (.aload_n 3, 1) := dk_45 (dk_at dksJ27_unlinkFirst_1 3 rfl rfl)
theorem dJ27_unlinkFirst_26 : decode cJ27_unlinkFirst 26 = .ok (.ifnonnull 11, 3) := dk_199 0 11 (dk_at dksJ27_unlinkFirst_1 4 rfl rfl)
theorem dJ27_unlinkFirst_29 : decode cJ27_unlinkFirst 29 = .ok (.aload_n 0, 1) := dk_42 (dk_at dksJ27_unlinkFirst_1 7 rfl rfl)
theorem dJ27_unlinkFirst_30 : decode cJ27_unlinkFirst 30 = .ok (.aconst_null, 1) := dk_1 (dk_at dksJ27_unlinkFirst_1 8 rfl rfl)
theorem dJ27_unlinkFirst_31 : decode cJ27_unlinkFirst 31 = .ok (.putfield 27, 3) := dk_181 0 27 (dk_at dksJ27_unlinkFirst_1 9 rfl rfl)
theorem dJ27_unlinkFirst_34 : decode cJ27_unlinkFirst 34 = .ok (.goto 8, 3) := dk_167 0 8 (dk_at dksJ27_unlinkFirst_1 12 rfl rfl)
theorem dJ27_unlinkFirst_37 : decode cJ27_unlinkFirst 37 = .ok (.aload_n 3, 1) := dk_45 (dk_at dksJ27_unlinkFirst_1 15 rfl rfl)
theorem dJ27_unlinkFirst_38 : decode cJ27_unlinkFirst 38 = .ok (.aconst_null, 1) := dk_1 (dk_at dksJ27_unlinkFirst_1 16 rfl rfl)
theorem dJ27_unlinkFirst_39 : decode cJ27_unlinkFirst 39 = .ok (.putfield 30, 3) := dk_181 0 30 (dk_at dksJ27_unlinkFirst_1 17 rfl rfl)
theorem dJ27_unlinkFirst_42 : decode cJ27_unlinkFirst 42 = .ok (.aload_n 0, 1) := dk_42 (dk_at dksJ27_unlinkFirst_1 20 rfl rfl)
theorem dJ27_unlinkFirst_43 : decode cJ27_unlinkFirst 43 = .ok (.dup, 1) := dk_89 (dk_at dksJ27_unlinkFirst_1 21 rfl rfl)
theorem dJ27_unlinkFirst_44 : decode cJ27_unlinkFirst 44 = .ok (.getfield 7, 3) := dk_180 0 7 (dk_at dksJ27_unlinkFirst_2 0 rfl rfl)
theorem dJ27_unlinkFirst_47 : decode cJ27_unlinkFirst 47 = .ok (.iconst 1, 1) := dk_4 (dk_at dksJ27_unlinkFirst_2 3 rfl rfl)
theorem dJ27_unlinkFirst_48 : decode cJ27_unlinkFirst 48 = .ok (.isub, 1) := dk_100 (dk_at dksJ27_unlinkFirst_2 4 rfl rfl)
theorem dJ27_unlinkFirst_49 : decode cJ27_unlinkFirst 49 = .ok (.putfield 7, 3) := dk_181 0 7 (dk_at dksJ27_unlinkFirst_2 5 rfl rfl)
theorem dJ27_unlinkFirst_52 : decode cJ27_unlinkFirst 52 = .ok (.aload_n 0, 1) := dk_42 (dk_at dksJ27_unlinkFirst_2 8 rfl rfl)
theorem dJ27_unlinkFirst_53 : decode cJ27_unlinkFirst 53 = .ok (.dup, 1) := dk_89 (dk_at dksJ27_unlinkFirst_2 9 rfl rfl)
theorem dJ27_unlinkFirst_54 : decode cJ27_unlinkFirst 54 = .ok (.getfield 33, 3) := dk_180 0 33 (dk_at dksJ27_unlinkFirst_2 10 rfl rfl)
theorem dJ27_unlinkFirst_57 : decode cJ27_unlinkFirst 57 = .ok (.iconst 1, 1) := dk_4 (dk_at dksJ27_unlinkFirst_2 13 rfl rfl)
theorem dJ27_unlinkFirst_58 : decode cJ27_unlinkFirst 58 = .ok (.iadd, 1) := dk_96 (dk_at dksJ27_unlinkFirst_2 14 rfl rfl)
theorem dJ27_unlinkFirst_59 : decode cJ27_unlinkFirst 59 = .ok (.putfield 33, 3) := dk_181 0 33 (dk_at dksJ27_unlinkFirst_2 15 rfl rfl)
theorem dJ27_unlinkFirst_62 : decode cJ27_unlinkFirst 62 = .ok (.aload_n 2, 1) := dk_44 (dk_at dksJ27_unlinkFirst_2 18 rfl rfl)
theorem dJ27_unlinkFirst_63 : decode cJ27_unlinkFirst 63 = .ok (.areturn, 1) := dk_176 (dk_at dksJ27_unlinkFirst_2 19 rfl rfl)
abbrev cJ27_get : ByteArray := prog_61_method_22_code
def yJ27_get : MethodName := ⟨RJ27, "get", "(I)Ljava/lang/Object;"⟩
def dkwJ27_get_0 : List UInt8 := [42, 27, 182, 0, 90, 42, 27, 182, 0, 86, 180, 0, 39, 176]
abbrev dktJ27_get_0 : List UInt8 := dkwJ27_get_0 ++ []
theorem dksJ27_get_0 : cJ27_get.data.toList.drop 0 = dktJ27_get_0 := by decide +kernel
theorem dJ27_get_0 : decode cJ27_get 0 = .ok (.aload_n 0, 1) := dk_42 (dk_at dksJ27_get_0 0 rfl rfl)
theorem dJ27_get_1 : decode cJ27_get 1 = .ok (.iload_n 1, 1) := dk_27 (dk_at dksJ27_get_0 1 rfl rfl)
theorem dJ27_get_2 : decode cJ27_get 2 = .ok (.invokevirtual 90, 3) := dk_182 0 90 (dk_at dksJ27_get_0 2 rfl rfl)
theorem dJ27_get_5 : decode cJ27_get 5 = .ok (.aload_n 0, 1) := dk_42 (dk_at dksJ27_get_0 5 rfl rfl)
theorem dJ27_get_6 : decode cJ27_get 6 = .ok (.iload_n 1, 1) := dk_27 (dk_at dksJ27_get_0 6 rfl rfl)
theorem dJ27_get_7 : decode cJ27_get 7 = .ok (.invokevirtual 86, 3) := dk_182 0 86 (dk_at dksJ27_get_0 7 rfl rfl)
theorem dJ27_get_10 : decode cJ27_get 10 = .ok (.getfield 39, 3) := dk_180 0 39 (dk_at dksJ27_get_0 10 rfl rfl)
theorem dJ27_get_13 : decode cJ27_get 13 = .ok (.areturn, 1) := dk_176 (dk_at dksJ27_get_0 13 rfl rfl)
abbrev cJ27_checkElementIndex : ByteArray := prog_61_method_29_code
def yJ27_checkElementIndex : MethodName := ⟨RJ27, "checkElementIndex", "(I)V"⟩
def dkwJ27_checkElementIndex_0 : List UInt8 := [42, 27, 182, 0, 115, 154, 0, 16, 187, 0, 119, 89, 42, 27, 182, 0, 121, 183, 0, 125, 191, 177]
abbrev dktJ27_checkElementIndex_0 : List UInt8 := dkwJ27_checkElementIndex_0 ++ []
theorem dksJ27_checkElementIndex_0 : cJ27_checkElementIndex.data.toList.drop 0 = dktJ27_checkElementIndex_0 := by decide +kernel
theorem dJ27_checkElementIndex_0 : decode cJ27_checkElementIndex 0 = .ok (.aload_n 0, 1) := dk_42 (dk_at dksJ27_checkElementIndex_0 0 rfl rfl)
theorem dJ27_checkElementIndex_1 : decode cJ27_checkElementIndex 1 = .ok (.iload_n 1, 1) := dk_27 (dk_at dksJ27_checkElementIndex_0 1 rfl rfl)
theorem dJ27_checkElementIndex_2 : decode cJ27_checkElementIndex 2 = .ok (.invokevirtual 115, 3) := dk_182 0 115 (dk_at dksJ27_checkElementIndex_0 2 rfl rfl)
theorem dJ27_checkElementIndex_5 : decode cJ27_checkElementIndex 5 = .ok (.ifCond .ne 16, 3) := dk_154 0 16 (dk_at dksJ27_checkElementIndex_0 5 rfl rfl)
theorem dJ27_checkElementIndex_8 : decode cJ27_checkElementIndex 8 = .ok (.new 119, 3) := dk_187 0 119 (dk_at dksJ27_checkElementIndex_0 8 rfl rfl)
theorem dJ27_checkElementIndex_11 : decode cJ27_checkElementIndex 11 = .ok (.dup, 1) := dk_89 (dk_at dksJ27_checkElementIndex_0 11 rfl rfl)
theorem dJ27_checkElementIndex_12 : decode cJ27_checkElementIndex 12 = .ok (.aload_n 0, 1) := dk_42 (dk_at dksJ27_checkElementIndex_0 12 rfl rfl)
theorem dJ27_checkElementIndex_13 : decode cJ27_checkElementIndex 13 = .ok (.iload_n 1, 1) := dk_27 (dk_at dksJ27_checkElementIndex_0 13 rfl rfl)
theorem dJ27_checkElementIndex_14 : decode cJ27_checkElementIndex 14 = .ok (.invokevirtual 121, 3) := dk_182 0 121 (dk_at dksJ27_checkElementIndex_0 14 rfl rfl)
theorem dJ27_checkElementIndex_17 : decode cJ27_checkElementIndex 17 = .ok (.invokespecial 125, 3) := dk_183 0 125 (dk_at dksJ27_checkElementIndex_0 17 rfl rfl)
theorem dJ27_checkElementIndex_20 : decode cJ27_checkElementIndex 20 = .ok (.athrow, 1) := dk_191 (dk_at dksJ27_checkElementIndex_0 20 rfl rfl)
theorem dJ27_checkElementIndex_21 : decode cJ27_checkElementIndex 21 = .ok (.return_, 1) := dk_177 (dk_at dksJ27_checkElementIndex_0 21 rfl rfl)
abbrev cJ27_isElementIndex : ByteArray := prog_61_method_26_code
def yJ27_isElementIndex : MethodName := ⟨RJ27, "isElementIndex", "(I)Z"⟩
def dkwJ27_isElementIndex_0 : List UInt8 := [27, 155, 0, 15, 27, 42, 180, 0, 7, 162, 0, 7, 4, 167, 0, 4, 3, 172]
abbrev dktJ27_isElementIndex_0 : List UInt8 := dkwJ27_isElementIndex_0 ++ []
theorem dksJ27_isElementIndex_0 : cJ27_isElementIndex.data.toList.drop 0 = dktJ27_isElementIndex_0 := by decide +kernel
theorem dJ27_isElementIndex_0 : decode cJ27_isElementIndex 0 = .ok (.iload_n 1, 1) := dk_27 (dk_at dksJ27_isElementIndex_0 0 rfl rfl)
theorem dJ27_isElementIndex_1 : decode cJ27_isElementIndex 1 = .ok (.ifCond .lt 15, 3) := dk_155 0 15 (dk_at dksJ27_isElementIndex_0 1 rfl rfl)
theorem dJ27_isElementIndex_4 : decode cJ27_isElementIndex 4 = .ok (.iload_n 1, 1) := dk_27 (dk_at dksJ27_isElementIndex_0 4 rfl rfl)
theorem dJ27_isElementIndex_5 : decode cJ27_isElementIndex 5 = .ok (.aload_n 0, 1) := dk_42 (dk_at dksJ27_isElementIndex_0 5 rfl rfl)
theorem dJ27_isElementIndex_6 : decode cJ27_isElementIndex 6 = .ok (.getfield 7, 3) := dk_180 0 7 (dk_at dksJ27_isElementIndex_0 6 rfl rfl)
theorem dJ27_isElementIndex_9 : decode cJ27_isElementIndex 9 = .ok (.if_icmp .ge 7, 3) := dk_162 0 7 (dk_at dksJ27_isElementIndex_0 9 rfl rfl)
theorem dJ27_isElementIndex_12 : decode cJ27_isElementIndex 12 = .ok (.iconst 1, 1) := dk_4 (dk_at dksJ27_isElementIndex_0 12 rfl rfl)
theorem dJ27_isElementIndex_13 : decode cJ27_isElementIndex 13 = .ok (.goto 4, 3) := dk_167 0 4 (dk_at dksJ27_isElementIndex_0 13 rfl rfl)
theorem dJ27_isElementIndex_16 : decode cJ27_isElementIndex 16 = .ok (.iconst 0, 1) := dk_3 (dk_at dksJ27_isElementIndex_0 16 rfl rfl)
theorem dJ27_isElementIndex_17 : decode cJ27_isElementIndex 17 = .ok (.ireturn, 1) := dk_172 (dk_at dksJ27_isElementIndex_0 17 rfl rfl)
abbrev cJ27_node : ByteArray := prog_61_method_31_code
def yJ27_node : MethodName := ⟨RJ27, "node", "(I)Ljava/util/LinkedList$Node;"⟩
def dkwJ27_node_2 : List UInt8 := [29, 27, 164, 0, 14, 44, 180, 0, 30, 77, 132, 3, 255, 167, 255, 243, 44, 176]
abbrev dktJ27_node_2 : List UInt8 := dkwJ27_node_2 ++ []
def dkwJ27_node_1 : List UInt8 := [180, 0, 36, 77, 132, 3, 1, 167, 255, 243, 44, 176, 42, 180, 0, 27, 77, 42, 180, 0, 7, 4, 100, 62]
abbrev dktJ27_node_1 : List UInt8 := dkwJ27_node_1 ++ dktJ27_node_2
def dkwJ27_node_0 : List UInt8 := [27, 42, 180, 0, 7, 4, 122, 162, 0, 28, 42, 180, 0, 18, 77, 3, 62, 29, 27, 162, 0, 14, 44]
abbrev dktJ27_node_0 : List UInt8 := dkwJ27_node_0 ++ dktJ27_node_1
theorem dksJ27_node_0 : cJ27_node.data.toList.drop 0 = dktJ27_node_0 := by decide +kernel
theorem dksJ27_node_1 : cJ27_node.data.toList.drop 23 = dktJ27_node_1 := dk_seg dksJ27_node_0 23 rfl rfl
theorem dksJ27_node_2 : cJ27_node.data.toList.drop 47 = dktJ27_node_2 := dk_seg dksJ27_node_1 24 rfl rfl
theorem dJ27_node_0 : decode cJ27_node 0 = .ok (.iload_n 1, 1) := dk_27 (dk_at dksJ27_node_0 0 rfl rfl)
theorem dJ27_node_1 : decode cJ27_node 1 = .ok (.aload_n 0, 1) := dk_42 (dk_at dksJ27_node_0 1 rfl rfl)
theorem dJ27_node_2 : decode cJ27_node 2 = .ok (.getfield 7, 3) := dk_180 0 7 (dk_at dksJ27_node_0 2 rfl rfl)
theorem dJ27_node_5 : decode cJ27_node 5 = .ok (.iconst 1, 1) := dk_4 (dk_at dksJ27_node_0 5 rfl rfl)
theorem dJ27_node_6 : decode cJ27_node 6 = .ok (.ishr, 1) := dk_122 (dk_at dksJ27_node_0 6 rfl rfl)
theorem dJ27_node_7 : decode cJ27_node 7 = .ok (.if_icmp .ge 28, 3) := dk_162 0 28 (dk_at dksJ27_node_0 7 rfl rfl)
theorem dJ27_node_10 : decode cJ27_node 10 = .ok (.aload_n 0, 1) := dk_42 (dk_at dksJ27_node_0 10 rfl rfl)
theorem dJ27_node_11 : decode cJ27_node 11 = .ok (.getfield 18, 3) := dk_180 0 18 (dk_at dksJ27_node_0 11 rfl rfl)
theorem dJ27_node_14 : decode cJ27_node 14 = .ok (.astore_n 2, 1) := dk_77 (dk_at dksJ27_node_0 14 rfl rfl)
theorem dJ27_node_15 : decode cJ27_node 15 = .ok (.iconst 0, 1) := dk_3 (dk_at dksJ27_node_0 15 rfl rfl)
theorem dJ27_node_16 : decode cJ27_node 16 = .ok (.istore_n 3, 1) := dk_62 (dk_at dksJ27_node_0 16 rfl rfl)
theorem dJ27_node_17 : decode cJ27_node 17 = .ok (.iload_n 3, 1) := dk_29 (dk_at dksJ27_node_0 17 rfl rfl)
theorem dJ27_node_18 : decode cJ27_node 18 = .ok (.iload_n 1, 1) := dk_27 (dk_at dksJ27_node_0 18 rfl rfl)
theorem dJ27_node_19 : decode cJ27_node 19 = .ok (.if_icmp .ge 14, 3) := dk_162 0 14 (dk_at dksJ27_node_0 19 rfl rfl)
theorem dJ27_node_22 : decode cJ27_node 22 = .ok (.aload_n 2, 1) := dk_44 (dk_at dksJ27_node_0 22 rfl rfl)
theorem dJ27_node_23 : decode cJ27_node 23 = .ok (.getfield 36, 3) := dk_180 0 36 (dk_at dksJ27_node_1 0 rfl rfl)
theorem dJ27_node_26 : decode cJ27_node 26 = .ok (.astore_n 2, 1) := dk_77 (dk_at dksJ27_node_1 3 rfl rfl)
theorem dJ27_node_27 : decode cJ27_node 27 = .ok (.iinc 3 1, 3) := dk_132 3 1 (dk_at dksJ27_node_1 4 rfl rfl)
theorem dJ27_node_30 : decode cJ27_node 30 = .ok (.goto (-13), 3) := dk_167 255 243 (dk_at dksJ27_node_1 7 rfl rfl)
theorem dJ27_node_33 : decode cJ27_node 33 = .ok (.aload_n 2, 1) := dk_44 (dk_at dksJ27_node_1 10 rfl rfl)
theorem dJ27_node_34 : decode cJ27_node 34 = .ok (.areturn, 1) := dk_176 (dk_at dksJ27_node_1 11 rfl rfl)
theorem dJ27_node_35 : decode cJ27_node 35 = .ok (.aload_n 0, 1) := dk_42 (dk_at dksJ27_node_1 12 rfl rfl)
theorem dJ27_node_36 : decode cJ27_node 36 = .ok (.getfield 27, 3) := dk_180 0 27 (dk_at dksJ27_node_1 13 rfl rfl)
theorem dJ27_node_39 : decode cJ27_node 39 = .ok (.astore_n 2, 1) := dk_77 (dk_at dksJ27_node_1 16 rfl rfl)
theorem dJ27_node_40 : decode cJ27_node 40 = .ok (.aload_n 0, 1) := dk_42 (dk_at dksJ27_node_1 17 rfl rfl)
theorem dJ27_node_41 : decode cJ27_node 41 = .ok (.getfield 7, 3) := dk_180 0 7 (dk_at dksJ27_node_1 18 rfl rfl)
theorem dJ27_node_44 : decode cJ27_node 44 = .ok (.iconst 1, 1) := dk_4 (dk_at dksJ27_node_1 21 rfl rfl)
theorem dJ27_node_45 : decode cJ27_node 45 = .ok (.isub, 1) := dk_100 (dk_at dksJ27_node_1 22 rfl rfl)
theorem dJ27_node_46 : decode cJ27_node 46 = .ok (.istore_n 3, 1) := dk_62 (dk_at dksJ27_node_1 23 rfl rfl)
theorem dJ27_node_47 : decode cJ27_node 47 = .ok (.iload_n 3, 1) := dk_29 (dk_at dksJ27_node_2 0 rfl rfl)
theorem dJ27_node_48 : decode cJ27_node 48 = .ok (.iload_n 1, 1) := dk_27 (dk_at dksJ27_node_2 1 rfl rfl)
theorem dJ27_node_49 : decode cJ27_node 49 = .ok (.if_icmp .le 14, 3) := dk_164 0 14 (dk_at dksJ27_node_2 2 rfl rfl)
theorem dJ27_node_52 : decode cJ27_node 52 = .ok (.aload_n 2, 1) := dk_44 (dk_at dksJ27_node_2 5 rfl rfl)
theorem dJ27_node_53 : decode cJ27_node 53 = .ok (.getfield 30, 3) := dk_180 0 30 (dk_at dksJ27_node_2 6 rfl rfl)
theorem dJ27_node_56 : decode cJ27_node 56 = .ok (.astore_n 2, 1) := dk_77 (dk_at dksJ27_node_2 9 rfl rfl)
theorem dJ27_node_57 : decode cJ27_node 57 = .ok (.iinc 3 (-1), 3) := dk_132 3 255 (dk_at dksJ27_node_2 10 rfl rfl)
theorem dJ27_node_60 : decode cJ27_node 60 = .ok (.goto (-13), 3) := dk_167 255 243 (dk_at dksJ27_node_2 13 rfl rfl)
theorem dJ27_node_63 : decode cJ27_node 63 = .ok (.aload_n 2, 1) := dk_44 (dk_at dksJ27_node_2 16 rfl rfl)
theorem dJ27_node_64 : decode cJ27_node 64 = .ok (.areturn, 1) := dk_176 (dk_at dksJ27_node_2 17 rfl rfl)
theorem q122 : (Jvm.Cond.initialized "java/util/LinkedList") ∈ lw_all := lw_g (lw_at lw_m1 35 rfl) rfl
theorem q178 : (Jvm.Cond.fieldLink "java/util/LinkedList" (33 : Nat) "java/util/LinkedList" "modCount" "I") ∈ lw_all := lw_g (lw_at lw_m1 91 rfl) rfl
theorem q179 : (Jvm.Cond.sameField "java/util/LinkedList" "java/util/AbstractList" "modCount" "I") ∈ lw_all := lw_g (lw_at lw_m1 92 rfl) rfl
theorem q483 : (Jvm.Cond.selects "java/util/LinkedList" ({ cls := "java/lang/Object", name := "getClass", desc := "()Ljava/lang/Class;" } : Jvm.MethodName) ({ cls := "java/lang/Object", name := "getClass", desc := "()Ljava/lang/Class;" } : Jvm.MethodName)) ∈ lw_all := lw_g (lw_at lw_m2 156 rfl) rfl
theorem q867 : (Jvm.Cond.instantiable "java/util/LinkedList" (4 : Nat)) ∈ lw_all := lw_g (lw_at lw_m4 60 rfl) rfl
theorem q869 : (Jvm.Cond.instanceMethod ({ cls := "java/util/LinkedList", name := "<init>", desc := "()V" } : Jvm.MethodName)) ∈ lw_all := lw_g (lw_at lw_m4 62 rfl) rfl
theorem q870 : (Jvm.Cond.code ({ cls := "java/util/LinkedList", name := "<init>", desc := "()V" } : Jvm.MethodName) prog_61_method_1_code (1 : Nat) (Option.none : Option Jvm.ClassFile.FieldType)) ∈ lw_all := lw_g (lw_at lw_m4 63 rfl) rfl
theorem q871 : (Jvm.Cond.methodLink "java/util/LinkedList" (1 : Nat) ({ cls := "java/util/AbstractSequentialList", name := "<init>", desc := "()V" } : Jvm.MethodName)) ∈ lw_all := lw_g (lw_at lw_m4 64 rfl) rfl
theorem q875 : (Jvm.Cond.fieldLink "java/util/LinkedList" (7 : Nat) "java/util/LinkedList" "size" "I") ∈ lw_all := lw_g (lw_at lw_m4 68 rfl) rfl
theorem q876 : (Jvm.Cond.fieldLink "java/util/LinkedList" (18 : Nat) "java/util/LinkedList" "first" "Ljava/util/LinkedList$Node;") ∈ lw_all := lw_g (lw_at lw_m4 69 rfl) rfl
theorem q877 : (Jvm.Cond.fieldLink "java/util/LinkedList" (27 : Nat) "java/util/LinkedList" "last" "Ljava/util/LinkedList$Node;") ∈ lw_all := lw_g (lw_at lw_m4 70 rfl) rfl
theorem q878 : (Jvm.Cond.lays "java/util/LinkedList" "java/util/LinkedList" "size" "I") ∈ lw_all := lw_g (lw_at lw_m4 71 rfl) rfl
theorem q879 : (Jvm.Cond.soleField "java/util/LinkedList" "size") ∈ lw_all := lw_g (lw_at lw_m4 72 rfl) rfl
theorem q880 : (Jvm.Cond.lays "java/util/LinkedList" "java/util/LinkedList" "first" "Ljava/util/LinkedList$Node;") ∈ lw_all := lw_g (lw_at lw_m4 73 rfl) rfl
theorem q881 : (Jvm.Cond.soleField "java/util/LinkedList" "first") ∈ lw_all := lw_g (lw_at lw_m4 74 rfl) rfl
theorem q882 : (Jvm.Cond.lays "java/util/LinkedList" "java/util/LinkedList" "last" "Ljava/util/LinkedList$Node;") ∈ lw_all := lw_g (lw_at lw_m4 75 rfl) rfl
theorem q883 : (Jvm.Cond.soleField "java/util/LinkedList" "last") ∈ lw_all := lw_g (lw_at lw_m4 76 rfl) rfl
theorem q884 : (Jvm.Cond.lays "java/util/LinkedList" "java/util/AbstractList" "modCount" "I") ∈ lw_all := lw_g (lw_at lw_m4 77 rfl) rfl
theorem q885 : (Jvm.Cond.superclass "java/util/LinkedList" "java/util/AbstractSequentialList") ∈ lw_all := lw_g (lw_at lw_m4 78 rfl) rfl
theorem q902 : (Jvm.Cond.instanceMethod ({ cls := "java/util/LinkedList", name := "addLast", desc := "(Ljava/lang/Object;)V" } : Jvm.MethodName)) ∈ lw_all := lw_g (lw_at lw_m4 95 rfl) rfl
theorem q903 : (Jvm.Cond.selects "java/util/LinkedList" ({ cls := "java/util/LinkedList", name := "addLast", desc := "(Ljava/lang/Object;)V" } : Jvm.MethodName) ({ cls := "java/util/LinkedList", name := "addLast", desc := "(Ljava/lang/Object;)V" } : Jvm.MethodName)) ∈ lw_all := lw_g (lw_at lw_m4 96 rfl) rfl
theorem q904 : (Jvm.Cond.code ({ cls := "java/util/LinkedList", name := "addLast", desc := "(Ljava/lang/Object;)V" } : Jvm.MethodName) prog_61_method_14_code (2 : Nat) (Option.none : Option Jvm.ClassFile.FieldType)) ∈ lw_all := lw_g (lw_at lw_m4 97 rfl) rfl
theorem q905 : (Jvm.Cond.methodLink "java/util/LinkedList" (57 : Nat) ({ cls := "java/util/LinkedList", name := "linkLast", desc := "(Ljava/lang/Object;)V" } : Jvm.MethodName)) ∈ lw_all := lw_g (lw_at lw_m4 98 rfl) rfl
theorem q906 : (Jvm.Cond.instanceMethod ({ cls := "java/util/LinkedList", name := "linkLast", desc := "(Ljava/lang/Object;)V" } : Jvm.MethodName)) ∈ lw_all := lw_g (lw_at lw_m4 99 rfl) rfl
theorem q907 : (Jvm.Cond.selects "java/util/LinkedList" ({ cls := "java/util/LinkedList", name := "linkLast", desc := "(Ljava/lang/Object;)V" } : Jvm.MethodName) ({ cls := "java/util/LinkedList", name := "linkLast", desc := "(Ljava/lang/Object;)V" } : Jvm.MethodName)) ∈ lw_all := lw_g (lw_at lw_m4 100 rfl) rfl
theorem q908 : (Jvm.Cond.code ({ cls := "java/util/LinkedList", name := "linkLast", desc := "(Ljava/lang/Object;)V" } : Jvm.MethodName) prog_61_method_4_code (4 : Nat) (Option.none : Option Jvm.ClassFile.FieldType)) ∈ lw_all := lw_g (lw_at lw_m4 101 rfl) rfl
theorem q909 : (Jvm.Cond.classLink "java/util/LinkedList" (22 : Nat) "java/util/LinkedList$Node") ∈ lw_all := lw_g (lw_at lw_m4 102 rfl) rfl
theorem q911 : (Jvm.Cond.methodLink "java/util/LinkedList" (24 : Nat) ({ cls := "java/util/LinkedList$Node", name := "<init>", desc := "(Ljava/util/LinkedList$Node;Ljava/lang/Object;Ljava/util/LinkedList$Node;)V" } : Jvm.MethodName)) ∈ lw_all := lw_g (lw_at lw_m4 104 rfl) rfl
theorem q916 : (Jvm.Cond.fieldLink "java/util/LinkedList" (39 : Nat) "java/util/LinkedList$Node" "item" "Ljava/lang/Object;") ∈ lw_all := lw_g (lw_at lw_m4 109 rfl) rfl
theorem q918 : (Jvm.Cond.fieldLink "java/util/LinkedList" (36 : Nat) "java/util/LinkedList$Node" "next" "Ljava/util/LinkedList$Node;") ∈ lw_all := lw_g (lw_at lw_m4 111 rfl) rfl
theorem q920 : (Jvm.Cond.fieldLink "java/util/LinkedList" (30 : Nat) "java/util/LinkedList$Node" "prev" "Ljava/util/LinkedList$Node;") ∈ lw_all := lw_g (lw_at lw_m4 113 rfl) rfl
theorem q929 : (Jvm.Cond.sameMethod "java/util/LinkedList" "java/util/AbstractCollection" "isEmpty" "()Z") ∈ lw_all := lw_g (lw_at lw_m4 122 rfl) rfl
theorem q931 : (Jvm.Cond.selects "java/util/LinkedList" ({ cls := "java/util/LinkedList", name := "isEmpty", desc := "()Z" } : Jvm.MethodName) ({ cls := "java/util/AbstractCollection", name := "isEmpty", desc := "()Z" } : Jvm.MethodName)) ∈ lw_all := lw_g (lw_at lw_m4 124 rfl) rfl
theorem q953 : (Jvm.Cond.selects "java/util/LinkedList" ({ cls := "java/util/AbstractCollection", name := "size", desc := "()I" } : Jvm.MethodName) ({ cls := "java/util/LinkedList", name := "size", desc := "()I" } : Jvm.MethodName)) ∈ lw_all := lw_g (lw_at lw_m4 146 rfl) rfl
theorem q954 : (Jvm.Cond.instanceMethod ({ cls := "java/util/LinkedList", name := "size", desc := "()I" } : Jvm.MethodName)) ∈ lw_all := lw_g (lw_at lw_m4 147 rfl) rfl
theorem q955 : (Jvm.Cond.code ({ cls := "java/util/LinkedList", name := "size", desc := "()I" } : Jvm.MethodName) prog_61_method_16_code (1 : Nat) (Option.some Jvm.ClassFile.FieldType.int)) ∈ lw_all := lw_g (lw_at lw_m4 148 rfl) rfl
theorem q957 : (Jvm.Cond.instanceMethod ({ cls := "java/util/LinkedList", name := "removeFirst", desc := "()Ljava/lang/Object;" } : Jvm.MethodName)) ∈ lw_all := lw_g (lw_at lw_m4 150 rfl) rfl
theorem q958 : (Jvm.Cond.selects "java/util/LinkedList" ({ cls := "java/util/LinkedList", name := "removeFirst", desc := "()Ljava/lang/Object;" } : Jvm.MethodName) ({ cls := "java/util/LinkedList", name := "removeFirst", desc := "()Ljava/lang/Object;" } : Jvm.MethodName)) ∈ lw_all := lw_g (lw_at lw_m4 151 rfl) rfl
theorem q959 : (Jvm.Cond.code ({ cls := "java/util/LinkedList", name := "removeFirst", desc := "()Ljava/lang/Object;" } : Jvm.MethodName) prog_61_method_11_code (2 : Nat) (Option.some (Jvm.ClassFile.FieldType.object "java/lang/Object"))) ∈ lw_all := lw_g (lw_at lw_m4 152 rfl) rfl
theorem q960 : (Jvm.Cond.methodLink "java/util/LinkedList" (46 : Nat) ({ cls := "java/util/LinkedList", name := "unlinkFirst", desc := "(Ljava/util/LinkedList$Node;)Ljava/lang/Object;" } : Jvm.MethodName)) ∈ lw_all := lw_g (lw_at lw_m4 153 rfl) rfl
theorem q961 : (Jvm.Cond.privateMethod ({ cls := "java/util/LinkedList", name := "unlinkFirst", desc := "(Ljava/util/LinkedList$Node;)Ljava/lang/Object;" } : Jvm.MethodName)) ∈ lw_tbl := lw_at lw_m4 154 rfl
theorem q962 : (Jvm.Cond.instanceMethod ({ cls := "java/util/LinkedList", name := "unlinkFirst", desc := "(Ljava/util/LinkedList$Node;)Ljava/lang/Object;" } : Jvm.MethodName)) ∈ lw_all := lw_g (lw_at lw_m4 155 rfl) rfl
theorem q963 : (Jvm.Cond.code ({ cls := "java/util/LinkedList", name := "unlinkFirst", desc := "(Ljava/util/LinkedList$Node;)Ljava/lang/Object;" } : Jvm.MethodName) prog_61_method_6_code (4 : Nat) (Option.some (Jvm.ClassFile.FieldType.object "java/lang/Object"))) ∈ lw_all := lw_g (lw_at lw_m4 156 rfl) rfl
theorem q1809 : (Jvm.Cond.instanceMethod ({ cls := "java/util/LinkedList", name := "get", desc := "(I)Ljava/lang/Object;" } : Jvm.MethodName)) ∈ lw_all := lw_g (lw_at lw_m8 42 rfl) rfl
theorem q1810 : (Jvm.Cond.selects "java/util/LinkedList" ({ cls := "java/util/LinkedList", name := "get", desc := "(I)Ljava/lang/Object;" } : Jvm.MethodName) ({ cls := "java/util/LinkedList", name := "get", desc := "(I)Ljava/lang/Object;" } : Jvm.MethodName)) ∈ lw_all := lw_g (lw_at lw_m8 43 rfl) rfl
theorem q1811 : (Jvm.Cond.code ({ cls := "java/util/LinkedList", name := "get", desc := "(I)Ljava/lang/Object;" } : Jvm.MethodName) prog_61_method_22_code (2 : Nat) (Option.some (Jvm.ClassFile.FieldType.object "java/lang/Object"))) ∈ lw_all := lw_g (lw_at lw_m8 44 rfl) rfl
theorem q1812 : (Jvm.Cond.methodLink "java/util/LinkedList" (90 : Nat) ({ cls := "java/util/LinkedList", name := "checkElementIndex", desc := "(I)V" } : Jvm.MethodName)) ∈ lw_all := lw_g (lw_at lw_m8 45 rfl) rfl
theorem q1813 : (Jvm.Cond.privateMethod ({ cls := "java/util/LinkedList", name := "checkElementIndex", desc := "(I)V" } : Jvm.MethodName)) ∈ lw_tbl := lw_at lw_m8 46 rfl
theorem q1814 : (Jvm.Cond.instanceMethod ({ cls := "java/util/LinkedList", name := "checkElementIndex", desc := "(I)V" } : Jvm.MethodName)) ∈ lw_all := lw_g (lw_at lw_m8 47 rfl) rfl
theorem q1815 : (Jvm.Cond.code ({ cls := "java/util/LinkedList", name := "checkElementIndex", desc := "(I)V" } : Jvm.MethodName) prog_61_method_29_code (2 : Nat) (Option.none : Option Jvm.ClassFile.FieldType)) ∈ lw_all := lw_g (lw_at lw_m8 48 rfl) rfl
theorem q1816 : (Jvm.Cond.methodLink "java/util/LinkedList" (115 : Nat) ({ cls := "java/util/LinkedList", name := "isElementIndex", desc := "(I)Z" } : Jvm.MethodName)) ∈ lw_all := lw_g (lw_at lw_m8 49 rfl) rfl
theorem q1817 : (Jvm.Cond.privateMethod ({ cls := "java/util/LinkedList", name := "isElementIndex", desc := "(I)Z" } : Jvm.MethodName)) ∈ lw_tbl := lw_at lw_m8 50 rfl
theorem q1818 : (Jvm.Cond.instanceMethod ({ cls := "java/util/LinkedList", name := "isElementIndex", desc := "(I)Z" } : Jvm.MethodName)) ∈ lw_all := lw_g (lw_at lw_m8 51 rfl) rfl
theorem q1819 : (Jvm.Cond.code ({ cls := "java/util/LinkedList", name := "isElementIndex", desc := "(I)Z" } : Jvm.MethodName) prog_61_method_26_code (2 : Nat) (Option.some Jvm.ClassFile.FieldType.boolean)) ∈ lw_all := lw_g (lw_at lw_m8 52 rfl) rfl
theorem q1820 : (Jvm.Cond.methodLink "java/util/LinkedList" (86 : Nat) ({ cls := "java/util/LinkedList", name := "node", desc := "(I)Ljava/util/LinkedList$Node;" } : Jvm.MethodName)) ∈ lw_all := lw_g (lw_at lw_m8 53 rfl) rfl
theorem q1821 : (Jvm.Cond.instanceMethod ({ cls := "java/util/LinkedList", name := "node", desc := "(I)Ljava/util/LinkedList$Node;" } : Jvm.MethodName)) ∈ lw_all := lw_g (lw_at lw_m8 54 rfl) rfl
theorem q1822 : (Jvm.Cond.selects "java/util/LinkedList" ({ cls := "java/util/LinkedList", name := "node", desc := "(I)Ljava/util/LinkedList$Node;" } : Jvm.MethodName) ({ cls := "java/util/LinkedList", name := "node", desc := "(I)Ljava/util/LinkedList$Node;" } : Jvm.MethodName)) ∈ lw_all := lw_g (lw_at lw_m8 55 rfl) rfl
theorem q1823 : (Jvm.Cond.code ({ cls := "java/util/LinkedList", name := "node", desc := "(I)Ljava/util/LinkedList$Node;" } : Jvm.MethodName) prog_61_method_31_code (4 : Nat) (Option.some (Jvm.ClassFile.FieldType.object "java/util/LinkedList$Node"))) ∈ lw_all := lw_g (lw_at lw_m8 56 rfl) rfl
theorem q2865 : (Jvm.Cond.selects "java/util/LinkedList" ({ cls := "java/util/LinkedList", name := "size", desc := "()I" } : Jvm.MethodName) ({ cls := "java/util/LinkedList", name := "size", desc := "()I" } : Jvm.MethodName)) ∈ lw_all := lw_g (lw_at lw_m12 138 rfl) rfl
theorem q2900 : (Jvm.Cond.castable "java/util/LinkedList" "java/lang/Object") ∈ lw_tbl := lw_at lw_m12 173 rfl
theorem in_J27 : ∀ w ∈ wsJ270, w ∈ lw_all := lw_in wsJ270 [884, 878, 880, 882] (by decide +kernel) (by decide +kernel)
/-! java/util/LinkedList$Node -/
set_option maxRecDepth 100000
def RJ28 : String := "java/util/LinkedList$Node"
def TJ28 : u_T := fun k => match k with
  | 0 => ("java/util/LinkedList$Node", "item", "Ljava/lang/Object;", false)
  | 1 => ("java/util/LinkedList$Node", "next", "Ljava/util/LinkedList$Node;", false)
  | _ => ("java/util/LinkedList$Node", "prev", "Ljava/util/LinkedList$Node;", false)
def tyJ28 : Nat → FieldType := fun k => match k with
  | 0 => .object "java/lang/Object"
  | 1 => .object "java/util/LinkedList$Node"
  | _ => .object "java/util/LinkedList$Node"
abbrev wsJ280 : List Cond := u_ws RJ28 TJ28 3
theorem nmJ28 : ∀ a, a < 3 → ∀ b, b < 3 → a ≠ b → (TJ28 a).2.1 ≠ (TJ28 b).2.1 := by decide +kernel
theorem tyJ28_ok : ∀ k, k < 3 → parseFieldDescriptor (TJ28 k).2.2.1 = some (tyJ28 k) := by decide +kernel
abbrev cJ28_init : ByteArray := prog_62_method_1_code
def yJ28_init : MethodName := ⟨RJ28, "<init>", "(Ljava/util/LinkedList$Node;Ljava/lang/Object;Ljava/util/LinkedList$Node;)V"⟩
def dkwJ28_init_0 : List UInt8 := [42, 183, 0, 1, 42, 44, 181, 0, 7, 42, 45, 181, 0, 13, 42, 43, 181, 0, 17, 177]
abbrev dktJ28_init_0 : List UInt8 := dkwJ28_init_0 ++ []
theorem dksJ28_init_0 : cJ28_init.data.toList.drop 0 = dktJ28_init_0 := by decide +kernel
theorem dJ28_init_0 : decode cJ28_init 0 = .ok (.aload_n 0, 1) := dk_42 (dk_at dksJ28_init_0 0 rfl rfl)
theorem dJ28_init_1 : decode cJ28_init 1 = .ok (.invokespecial 1, 3) := dk_183 0 1 (dk_at dksJ28_init_0 1 rfl rfl)
theorem dJ28_init_4 : decode cJ28_init 4 = .ok (.aload_n 0, 1) := dk_42 (dk_at dksJ28_init_0 4 rfl rfl)
theorem dJ28_init_5 : decode cJ28_init 5 = .ok (.aload_n 2, 1) := dk_44 (dk_at dksJ28_init_0 5 rfl rfl)
theorem dJ28_init_6 : decode cJ28_init 6 = .ok (.putfield 7, 3) := dk_181 0 7 (dk_at dksJ28_init_0 6 rfl rfl)
theorem dJ28_init_9 : decode cJ28_init 9 = .ok (.aload_n 0, 1) := dk_42 (dk_at dksJ28_init_0 9 rfl rfl)
theorem dJ28_init_10 : decode cJ28_init 10 = .ok (.aload_n 3, 1) := dk_45 (dk_at dksJ28_init_0 10 rfl rfl)
theorem dJ28_init_11 : decode cJ28_init 11 = .ok (.putfield 13, 3) := dk_181 0 13 (dk_at dksJ28_init_0 11 rfl rfl)
theorem dJ28_init_14 : decode cJ28_init 14 = .ok (.aload_n 0, 1) := dk_42 (dk_at dksJ28_init_0 14 rfl rfl)
theorem dJ28_init_15 : decode cJ28_init 15 = .ok (.aload_n 1, 1) := dk_43 (dk_at dksJ28_init_0 15 rfl rfl)
theorem dJ28_init_16 : decode cJ28_init 16 = .ok (.putfield 17, 3) := dk_181 0 17 (dk_at dksJ28_init_0 16 rfl rfl)
theorem dJ28_init_19 : decode cJ28_init 19 = .ok (.return_, 1) := dk_177 (dk_at dksJ28_init_0 19 rfl rfl)
theorem q124 : (Jvm.Cond.initialized "java/util/LinkedList$Node") ∈ lw_all := lw_g (lw_at lw_m1 37 rfl) rfl
theorem q484 : (Jvm.Cond.selects "java/util/LinkedList$Node" ({ cls := "java/lang/Object", name := "getClass", desc := "()Ljava/lang/Class;" } : Jvm.MethodName) ({ cls := "java/lang/Object", name := "getClass", desc := "()Ljava/lang/Class;" } : Jvm.MethodName)) ∈ lw_all := lw_g (lw_at lw_m2 157 rfl) rfl
theorem q910 : (Jvm.Cond.instantiable "java/util/LinkedList$Node" (3 : Nat)) ∈ lw_all := lw_g (lw_at lw_m4 103 rfl) rfl
theorem q912 : (Jvm.Cond.instanceMethod ({ cls := "java/util/LinkedList$Node", name := "<init>", desc := "(Ljava/util/LinkedList$Node;Ljava/lang/Object;Ljava/util/LinkedList$Node;)V" } : Jvm.MethodName)) ∈ lw_all := lw_g (lw_at lw_m4 105 rfl) rfl
theorem q913 : (Jvm.Cond.code ({ cls := "java/util/LinkedList$Node", name := "<init>", desc := "(Ljava/util/LinkedList$Node;Ljava/lang/Object;Ljava/util/LinkedList$Node;)V" } : Jvm.MethodName) prog_62_method_1_code (4 : Nat) (Option.none : Option Jvm.ClassFile.FieldType)) ∈ lw_all := lw_g (lw_at lw_m4 106 rfl) rfl
theorem q914 : (Jvm.Cond.methodLink "java/util/LinkedList$Node" (1 : Nat) ({ cls := "java/lang/Object", name := "<init>", desc := "()V" } : Jvm.MethodName)) ∈ lw_all := lw_g (lw_at lw_m4 107 rfl) rfl
theorem q915 : (Jvm.Cond.fieldLink "java/util/LinkedList$Node" (7 : Nat) "java/util/LinkedList$Node" "item" "Ljava/lang/Object;") ∈ lw_all := lw_g (lw_at lw_m4 108 rfl) rfl
theorem q917 : (Jvm.Cond.fieldLink "java/util/LinkedList$Node" (13 : Nat) "java/util/LinkedList$Node" "next" "Ljava/util/LinkedList$Node;") ∈ lw_all := lw_g (lw_at lw_m4 110 rfl) rfl
theorem q919 : (Jvm.Cond.fieldLink "java/util/LinkedList$Node" (17 : Nat) "java/util/LinkedList$Node" "prev" "Ljava/util/LinkedList$Node;") ∈ lw_all := lw_g (lw_at lw_m4 112 rfl) rfl
theorem q921 : (Jvm.Cond.lays "java/util/LinkedList$Node" "java/util/LinkedList$Node" "item" "Ljava/lang/Object;") ∈ lw_all := lw_g (lw_at lw_m4 114 rfl) rfl
theorem q922 : (Jvm.Cond.soleField "java/util/LinkedList$Node" "item") ∈ lw_all := lw_g (lw_at lw_m4 115 rfl) rfl
theorem q923 : (Jvm.Cond.lays "java/util/LinkedList$Node" "java/util/LinkedList$Node" "next" "Ljava/util/LinkedList$Node;") ∈ lw_all := lw_g (lw_at lw_m4 116 rfl) rfl
theorem q924 : (Jvm.Cond.soleField "java/util/LinkedList$Node" "next") ∈ lw_all := lw_g (lw_at lw_m4 117 rfl) rfl
theorem q925 : (Jvm.Cond.lays "java/util/LinkedList$Node" "java/util/LinkedList$Node" "prev" "Ljava/util/LinkedList$Node;") ∈ lw_all := lw_g (lw_at lw_m4 118 rfl) rfl
theorem q926 : (Jvm.Cond.soleField "java/util/LinkedList$Node" "prev") ∈ lw_all := lw_g (lw_at lw_m4 119 rfl) rfl
theorem q927 : (Jvm.Cond.superclass "java/util/LinkedList$Node" "java/lang/Object") ∈ lw_all := lw_g (lw_at lw_m4 120 rfl) rfl
theorem q2902 : (Jvm.Cond.castable "java/util/LinkedList$Node" "java/lang/Object") ∈ lw_tbl := lw_at lw_m12 175 rfl
theorem in_J28 : ∀ w ∈ wsJ280, w ∈ lw_all := lw_in wsJ280 [921, 923, 925] (by decide +kernel) (by decide +kernel)
/-! java/lang/StringLatin1 -/
set_option maxRecDepth 100000
def RJ29 : String := "java/lang/StringLatin1"
abbrev cJ29_hashCode : ByteArray := prog_28_method_21_code
def yJ29_hashCode : MethodName := ⟨RJ29, "hashCode", "([B)I"⟩
def dkwJ29_hashCode_2 : List UInt8 := [3, 167, 0, 22, 42, 3, 51, 17, 0, 255, 126, 167, 0, 12, 42, 3, 42, 190, 3, 7, 184, 0, 84, 172]
abbrev dktJ29_hashCode_2 : List UInt8 := dkwJ29_hashCode_2 ++ []
def dkwJ29_hashCode_1 : List UInt8 := [171, 0, 0, 0, 0, 40, 0, 0, 0, 2, 0, 0, 0, 0, 0, 0, 0, 26, 0, 0, 0, 1, 0, 0, 0, 30]
abbrev dktJ29_hashCode_1 : List UInt8 := dkwJ29_hashCode_1 ++ dktJ29_hashCode_2
def dkwJ29_hashCode_0 : List UInt8 := [42, 190]
abbrev dktJ29_hashCode_0 : List UInt8 := dkwJ29_hashCode_0 ++ dktJ29_hashCode_1
theorem dksJ29_hashCode_0 : cJ29_hashCode.data.toList.drop 0 = dktJ29_hashCode_0 := by decide +kernel
theorem dksJ29_hashCode_1 : cJ29_hashCode.data.toList.drop 2 = dktJ29_hashCode_1 := dk_seg dksJ29_hashCode_0 2 rfl rfl
theorem dksJ29_hashCode_2 : cJ29_hashCode.data.toList.drop 28 = dktJ29_hashCode_2 := dk_seg dksJ29_hashCode_1 26 rfl rfl
theorem dJ29_hashCode_0 : decode cJ29_hashCode 0 = .ok (.aload_n 0, 1) := dk_42 (dk_at dksJ29_hashCode_0 0 rfl rfl)
theorem dJ29_hashCode_1 : decode cJ29_hashCode 1 = .ok (.arraylength, 1) := dk_190 (dk_at dksJ29_hashCode_0 1 rfl rfl)
theorem dJ29_hashCode_2 : decode cJ29_hashCode 2 = .ok (.lookupswitch 40 #[(0, 26), (1, 30)], 26) := by decide +kernel
theorem dJ29_hashCode_28 : decode cJ29_hashCode 28 = .ok (.iconst 0, 1) := dk_3 (dk_at dksJ29_hashCode_2 0 rfl rfl)
theorem dJ29_hashCode_29 : decode cJ29_hashCode 29 = .ok (.goto 22, 3) := dk_167 0 22 (dk_at dksJ29_hashCode_2 1 rfl rfl)
theorem dJ29_hashCode_32 : decode cJ29_hashCode 32 = .ok (.aload_n 0, 1) := dk_42 (dk_at dksJ29_hashCode_2 4 rfl rfl)
theorem dJ29_hashCode_33 : decode cJ29_hashCode 33 = .ok (.iconst 0, 1) := dk_3 (dk_at dksJ29_hashCode_2 5 rfl rfl)
theorem dJ29_hashCode_34 : decode cJ29_hashCode 34 = .ok (.baload, 1) := dk_51 (dk_at dksJ29_hashCode_2 6 rfl rfl)
theorem dJ29_hashCode_35 : decode cJ29_hashCode 35 = .ok (.sipush 255, 3) := dk_17 0 255 (dk_at dksJ29_hashCode_2 7 rfl rfl)
theorem dJ29_hashCode_38 : decode cJ29_hashCode 38 = .ok (.iand, 1) := dk_126 (dk_at dksJ29_hashCode_2 10 rfl rfl)
theorem dJ29_hashCode_39 : decode cJ29_hashCode 39 = .ok (.goto 12, 3) := dk_167 0 12 (dk_at dksJ29_hashCode_2 11 rfl rfl)
theorem dJ29_hashCode_42 : decode cJ29_hashCode 42 = .ok (.aload_n 0, 1) := dk_42 (dk_at dksJ29_hashCode_2 14 rfl rfl)
theorem dJ29_hashCode_43 : decode cJ29_hashCode 43 = .ok (.iconst 0, 1) := dk_3 (dk_at dksJ29_hashCode_2 15 rfl rfl)
theorem dJ29_hashCode_44 : decode cJ29_hashCode 44 = .ok (.aload_n 0, 1) := dk_42 (dk_at dksJ29_hashCode_2 16 rfl rfl)
theorem dJ29_hashCode_45 : decode cJ29_hashCode 45 = .ok (.arraylength, 1) := dk_190 (dk_at dksJ29_hashCode_2 17 rfl rfl)
theorem dJ29_hashCode_46 : decode cJ29_hashCode 46 = .ok (.iconst 0, 1) := dk_3 (dk_at dksJ29_hashCode_2 18 rfl rfl)
theorem dJ29_hashCode_47 : decode cJ29_hashCode 47 = .ok (.iconst 4, 1) := dk_7 (dk_at dksJ29_hashCode_2 19 rfl rfl)
theorem dJ29_hashCode_48 : decode cJ29_hashCode 48 = .ok (.invokestatic 84, 3) := dk_184 0 84 (dk_at dksJ29_hashCode_2 20 rfl rfl)
theorem dJ29_hashCode_51 : decode cJ29_hashCode 51 = .ok (.ireturn, 1) := dk_172 (dk_at dksJ29_hashCode_2 23 rfl rfl)
abbrev cJ29_compareTo : ByteArray := prog_28_method_14_code
def yJ29_compareTo : MethodName := ⟨RJ29, "compareTo", "([B[B)I"⟩
def dkwJ29_compareTo_0 : List UInt8 := [42, 190, 61, 43, 190, 62, 42, 43, 28, 29, 184, 0, 34, 172]
abbrev dktJ29_compareTo_0 : List UInt8 := dkwJ29_compareTo_0 ++ []
theorem dksJ29_compareTo_0 : cJ29_compareTo.data.toList.drop 0 = dktJ29_compareTo_0 := by decide +kernel
theorem dJ29_compareTo_0 : decode cJ29_compareTo 0 = .ok (.aload_n 0, 1) := dk_42 (dk_at dksJ29_compareTo_0 0 rfl rfl)
theorem dJ29_compareTo_1 : decode cJ29_compareTo 1 = .ok (.arraylength, 1) := dk_190 (dk_at dksJ29_compareTo_0 1 rfl rfl)
theorem dJ29_compareTo_2 : decode cJ29_compareTo 2 = .ok (.istore_n 2, 1) := dk_61 (dk_at dksJ29_compareTo_0 2 rfl rfl)
theorem dJ29_compareTo_3 : decode cJ29_compareTo 3 = .ok (.aload_n 1, 1) := dk_43 (dk_at dksJ29_compareTo_0 3 rfl rfl)
theorem dJ29_compareTo_4 : decode cJ29_compareTo 4 = .ok (.arraylength, 1) := dk_190 (dk_at dksJ29_compareTo_0 4 rfl rfl)
theorem dJ29_compareTo_5 : decode cJ29_compareTo 5 = .ok (.istore_n 3, 1) := dk_62 (dk_at dksJ29_compareTo_0 5 rfl rfl)
theorem dJ29_compareTo_6 : decode cJ29_compareTo 6 = .ok (.aload_n 0, 1) := dk_42 (dk_at dksJ29_compareTo_0 6 rfl rfl)
theorem dJ29_compareTo_7 : decode cJ29_compareTo 7 = .ok (.aload_n 1, 1) := dk_43 (dk_at dksJ29_compareTo_0 7 rfl rfl)
theorem dJ29_compareTo_8 : decode cJ29_compareTo 8 = .ok (.iload_n 2, 1) := dk_28 (dk_at dksJ29_compareTo_0 8 rfl rfl)
theorem dJ29_compareTo_9 : decode cJ29_compareTo 9 = .ok (.iload_n 3, 1) := dk_29 (dk_at dksJ29_compareTo_0 9 rfl rfl)
theorem dJ29_compareTo_10 : decode cJ29_compareTo 10 = .ok (.invokestatic 34, 3) := dk_184 0 34 (dk_at dksJ29_compareTo_0 10 rfl rfl)
theorem dJ29_compareTo_13 : decode cJ29_compareTo 13 = .ok (.ireturn, 1) := dk_172 (dk_at dksJ29_compareTo_0 13 rfl rfl)
abbrev cJ29_compareTo_2 : ByteArray := prog_28_method_15_code
def yJ29_compareTo_2 : MethodName := ⟨RJ29, "compareTo", "([B[BII)I"⟩
def dkwJ29_compareTo_2_1 : List UInt8 := [167, 0, 16, 42, 21, 5, 184, 0, 50, 43, 21, 5, 184, 0, 50, 100, 172]
abbrev dktJ29_compareTo_2_1 : List UInt8 := dkwJ29_compareTo_2_1 ++ []
def dkwJ29_compareTo_2_0 : List UInt8 := [28, 29, 184, 0, 38, 54, 4, 42, 43, 21, 4, 184, 0, 44, 54, 5, 21, 5, 156, 0, 9, 28, 29, 100]
abbrev dktJ29_compareTo_2_0 : List UInt8 := dkwJ29_compareTo_2_0 ++ dktJ29_compareTo_2_1
theorem dksJ29_compareTo_2_0 : cJ29_compareTo_2.data.toList.drop 0 = dktJ29_compareTo_2_0 := by decide +kernel
theorem dksJ29_compareTo_2_1 : cJ29_compareTo_2.data.toList.drop 24 = dktJ29_compareTo_2_1 := dk_seg dksJ29_compareTo_2_0 24 rfl rfl
theorem dJ29_compareTo_2_0 : decode cJ29_compareTo_2 0 = .ok (.iload_n 2, 1) := dk_28 (dk_at dksJ29_compareTo_2_0 0 rfl rfl)
theorem dJ29_compareTo_2_1 : decode cJ29_compareTo_2 1 = .ok (.iload_n 3, 1) := dk_29 (dk_at dksJ29_compareTo_2_0 1 rfl rfl)
theorem dJ29_compareTo_2_2 : decode cJ29_compareTo_2 2 = .ok (.invokestatic 38, 3) := dk_184 0 38 (dk_at dksJ29_compareTo_2_0 2 rfl rfl)
theorem dJ29_compareTo_2_5 : decode cJ29_compareTo_2 5 = .ok (.istore 4, 2) := dk_54 4 (dk_at dksJ29_compareTo_2_0 5 rfl rfl)
theorem dJ29_compareTo_2_7 : decode cJ29_compareTo_2 7 = .ok (.aload_n 0, 1) := dk_42 (dk_at dksJ29_compareTo_2_0 7 rfl rfl)
theorem dJ29_compareTo_2_8 : decode cJ29_compareTo_2 8 = .ok (.aload_n 1, 1) := dk_43 (dk_at dksJ29_compareTo_2_0 8 rfl rfl)
theorem dJ29_compareTo_2_9 : decode cJ29_compareTo_2 9 = .ok (.iload 4, 2) := dk_21 4 (dk_at dksJ29_compareTo_2_0 9 rfl rfl)
theorem dJ29_compareTo_2_11 : decode cJ29_compareTo_2 11 = .ok (.invokestatic 44, 3) := dk_184 0 44 (dk_at dksJ29_compareTo_2_0 11 rfl rfl)
theorem dJ29_compareTo_2_14 : decode cJ29_compareTo_2 14 = .ok (.istore 5, 2) := dk_54 5 (dk_at dksJ29_compareTo_2_0 14 rfl rfl)
theorem dJ29_compareTo_2_16 : decode cJ29_compareTo_2 16 = .ok (.iload 5, 2) := dk_21 5 (dk_at dksJ29_compareTo_2_0 16 rfl rfl)
theorem dJ29_compareTo_2_18 : decode cJ29_compareTo_2 18 = .ok (.ifCond .ge 9, 3) := dk_156 0 9 (dk_at dksJ29_compareTo_2_0 18 rfl rfl)
theorem dJ29_compareTo_2_21 : decode cJ29_compareTo_2 21 = .ok (.iload_n 2, 1) := dk_28 (dk_at dksJ29_compareTo_2_0 21 rfl rfl)
theorem dJ29_compareTo_2_22 : decode cJ29_compareTo_2 22 = .ok (.iload_n 3, 1) := dk_29 (dk_at dksJ29_compareTo_2_0 22 rfl rfl)
theorem dJ29_compareTo_2_23 : decode cJ29_compareTo_2 23 = .ok (.isub, 1) := dk_100 (dk_at dksJ29_compareTo_2_0 23 rfl rfl)
theorem dJ29_compareTo_2_24 : decode cJ29_compareTo_2 24 = .ok (.goto 16, 3) := dk_167 0 16 (dk_at dksJ29_compareTo_2_1 0 rfl rfl)
theorem dJ29_compareTo_2_27 : decode cJ29_compareTo_2 27 = .ok (.aload_n 0, 1) := dk_42 (dk_at dksJ29_compareTo_2_1 3 rfl rfl)
theorem dJ29_compareTo_2_28 : decode cJ29_compareTo_2 28 = .ok (.iload 5, 2) := dk_21 5 (dk_at dksJ29_compareTo_2_1 4 rfl rfl)
theorem dJ29_compareTo_2_30 : decode cJ29_compareTo_2 30 = .ok (.invokestatic 50, 3) := dk_184 0 50 (dk_at dksJ29_compareTo_2_1 6 rfl rfl)
theorem dJ29_compareTo_2_33 : decode cJ29_compareTo_2 33 = .ok (.aload_n 1, 1) := dk_43 (dk_at dksJ29_compareTo_2_1 9 rfl rfl)
theorem dJ29_compareTo_2_34 : decode cJ29_compareTo_2 34 = .ok (.iload 5, 2) := dk_21 5 (dk_at dksJ29_compareTo_2_1 10 rfl rfl)
theorem dJ29_compareTo_2_36 : decode cJ29_compareTo_2 36 = .ok (.invokestatic 50, 3) := dk_184 0 50 (dk_at dksJ29_compareTo_2_1 12 rfl rfl)
theorem dJ29_compareTo_2_39 : decode cJ29_compareTo_2 39 = .ok (.isub, 1) := dk_100 (dk_at dksJ29_compareTo_2_1 15 rfl rfl)
theorem dJ29_compareTo_2_40 : decode cJ29_compareTo_2 40 = .ok (.ireturn, 1) := dk_172 (dk_at dksJ29_compareTo_2_1 16 rfl rfl)
abbrev cJ29_getChar : ByteArray := prog_28_method_44_code
def yJ29_getChar : MethodName := ⟨RJ29, "getChar", "([BI)C"⟩
def dkwJ29_getChar_0 : List UInt8 := [42, 27, 51, 17, 0, 255, 126, 146, 172]
abbrev dktJ29_getChar_0 : List UInt8 := dkwJ29_getChar_0 ++ []
theorem dksJ29_getChar_0 : cJ29_getChar.data.toList.drop 0 = dktJ29_getChar_0 := by decide +kernel
theorem dJ29_getChar_0 : decode cJ29_getChar 0 = .ok (.aload_n 0, 1) := dk_42 (dk_at dksJ29_getChar_0 0 rfl rfl)
theorem dJ29_getChar_1 : decode cJ29_getChar 1 = .ok (.iload_n 1, 1) := dk_27 (dk_at dksJ29_getChar_0 1 rfl rfl)
theorem dJ29_getChar_2 : decode cJ29_getChar 2 = .ok (.baload, 1) := dk_51 (dk_at dksJ29_getChar_0 2 rfl rfl)
theorem dJ29_getChar_3 : decode cJ29_getChar 3 = .ok (.sipush 255, 3) := dk_17 0 255 (dk_at dksJ29_getChar_0 3 rfl rfl)
theorem dJ29_getChar_6 : decode cJ29_getChar 6 = .ok (.iand, 1) := dk_126 (dk_at dksJ29_getChar_0 6 rfl rfl)
theorem dJ29_getChar_7 : decode cJ29_getChar 7 = .ok (.i2c, 1) := dk_146 (dk_at dksJ29_getChar_0 7 rfl rfl)
theorem dJ29_getChar_8 : decode cJ29_getChar 8 = .ok (.ireturn, 1) := dk_172 (dk_at dksJ29_getChar_0 8 rfl rfl)
abbrev cJ29_compareToUTF16 : ByteArray := prog_28_method_16_code
def yJ29_compareToUTF16 : MethodName := ⟨RJ29, "compareToUTF16", "([B[B)I"⟩
def dkwJ29_compareToUTF16_0 : List UInt8 := [42, 184, 0, 54, 61, 43, 184, 0, 58, 62, 42, 43, 28, 29, 184, 0, 59, 172]
abbrev dktJ29_compareToUTF16_0 : List UInt8 := dkwJ29_compareToUTF16_0 ++ []
theorem dksJ29_compareToUTF16_0 : cJ29_compareToUTF16.data.toList.drop 0 = dktJ29_compareToUTF16_0 := by decide +kernel
theorem dJ29_compareToUTF16_0 : decode cJ29_compareToUTF16 0 = .ok (.aload_n 0, 1) := dk_42 (dk_at dksJ29_compareToUTF16_0 0 rfl rfl)
theorem dJ29_compareToUTF16_1 : decode cJ29_compareToUTF16 1 = .ok (.invokestatic 54, 3) := dk_184 0 54 (dk_at dksJ29_compareToUTF16_0 1 rfl rfl)
theorem dJ29_compareToUTF16_4 : decode cJ29_compareToUTF16 4 = .ok (.istore_n 2, 1) := dk_61 (dk_at dksJ29_compareToUTF16_0 4 rfl rfl)
theorem dJ29_compareToUTF16_5 : decode cJ29_compareToUTF16 5 = .ok (.aload_n 1, 1) := dk_43 (dk_at dksJ29_compareToUTF16_0 5 rfl rfl)
theorem dJ29_compareToUTF16_6 : decode cJ29_compareToUTF16 6 = .ok (.invokestatic 58, 3) := dk_184 0 58 (dk_at dksJ29_compareToUTF16_0 6 rfl rfl)
theorem dJ29_compareToUTF16_9 : decode cJ29_compareToUTF16 9 = .ok (.istore_n 3, 1) := dk_62 (dk_at dksJ29_compareToUTF16_0 9 rfl rfl)
theorem dJ29_compareToUTF16_10 : decode cJ29_compareToUTF16 10 = .ok (.aload_n 0, 1) := dk_42 (dk_at dksJ29_compareToUTF16_0 10 rfl rfl)
theorem dJ29_compareToUTF16_11 : decode cJ29_compareToUTF16 11 = .ok (.aload_n 1, 1) := dk_43 (dk_at dksJ29_compareToUTF16_0 11 rfl rfl)
theorem dJ29_compareToUTF16_12 : decode cJ29_compareToUTF16 12 = .ok (.iload_n 2, 1) := dk_28 (dk_at dksJ29_compareToUTF16_0 12 rfl rfl)
theorem dJ29_compareToUTF16_13 : decode cJ29_compareToUTF16 13 = .ok (.iload_n 3, 1) := dk_29 (dk_at dksJ29_compareToUTF16_0 13 rfl rfl)
theorem dJ29_compareToUTF16_14 : decode cJ29_compareToUTF16 14 = .ok (.invokestatic 59, 3) := dk_184 0 59 (dk_at dksJ29_compareToUTF16_0 14 rfl rfl)
theorem dJ29_compareToUTF16_17 : decode cJ29_compareToUTF16 17 = .ok (.ireturn, 1) := dk_172 (dk_at dksJ29_compareToUTF16_0 17 rfl rfl)
abbrev cJ29_length : ByteArray := prog_28_method_5_code
def yJ29_length : MethodName := ⟨RJ29, "length", "([B)I"⟩
theorem dJ29_length_0 : decode cJ29_length 0 = .ok (.aload_n 0, 1) := by decide +kernel
theorem dJ29_length_1 : decode cJ29_length 1 = .ok (.arraylength, 1) := by decide +kernel
theorem dJ29_length_2 : decode cJ29_length 2 = .ok (.ireturn, 1) := by decide +kernel
abbrev cJ29_compareToUTF16Values : ByteArray := prog_28_method_18_code
def yJ29_compareToUTF16Values : MethodName := ⟨RJ29, "compareToUTF16Values", "([B[BII)I"⟩
def dkwJ29_compareToUTF16Values_2 : List UInt8 := [132, 5, 1, 167, 255, 217, 28, 29, 100, 172]
abbrev dktJ29_compareToUTF16Values_2 : List UInt8 := dkwJ29_compareToUTF16Values_2 ++ []
def dkwJ29_compareToUTF16Values_1 : List UInt8 := [54, 6, 43, 21, 5, 184, 0, 65, 54, 7, 21, 6, 21, 7, 159, 0, 9, 21, 6, 21, 7, 100, 172]
abbrev dktJ29_compareToUTF16Values_1 : List UInt8 := dkwJ29_compareToUTF16Values_1 ++ dktJ29_compareToUTF16Values_2
def dkwJ29_compareToUTF16Values_0 : List UInt8 := [28, 29, 184, 0, 38, 54, 4, 3, 54, 5, 21, 5, 21, 4, 162, 0, 38, 42, 21, 5, 184, 0, 50]
abbrev dktJ29_compareToUTF16Values_0 : List UInt8 := dkwJ29_compareToUTF16Values_0 ++ dktJ29_compareToUTF16Values_1
theorem dksJ29_compareToUTF16Values_0 : cJ29_compareToUTF16Values.data.toList.drop 0 = dktJ29_compareToUTF16Values_0 := by decide +kernel
theorem dksJ29_compareToUTF16Values_1 : cJ29_compareToUTF16Values.data.toList.drop 23 = dktJ29_compareToUTF16Values_1 := dk_seg dksJ29_compareToUTF16Values_0 23 rfl rfl
theorem dksJ29_compareToUTF16Values_2 : cJ29_compareToUTF16Values.data.toList.drop 46 = dktJ29_compareToUTF16Values_2 := dk_seg dksJ29_compareToUTF16Values_1 23 rfl rfl
theorem dJ29_compareToUTF16Values_0 : decode cJ29_compareToUTF16Values 0 = .ok (.iload_n 2, 1) := dk_28 (dk_at dksJ29_compareToUTF16Values_0 0 rfl rfl)
theorem dJ29_compareToUTF16Values_1 : decode cJ29_compareToUTF16Values 1 = .ok (.iload_n 3, 1) := dk_29 (dk_at dksJ29_compareToUTF16Values_0 1 rfl rfl)
theorem dJ29_compareToUTF16Values_2 : decode cJ29_compareToUTF16Values 2 = .ok (.invokestatic 38, 3) := dk_184 0 38 (dk_at dksJ29_compareToUTF16Values_0 2 rfl rfl)
theorem dJ29_compareToUTF16Values_5 : decode cJ29_compareToUTF16Values 5 = .ok (.istore 4, 2) := dk_54 4 (dk_at dksJ29_compareToUTF16Values_0 5 rfl rfl)
theorem dJ29_compareToUTF16Values_7 : decode cJ29_compareToUTF16Values 7 = .ok (.iconst 0, 1) := dk_3 (dk_at dksJ29_compareToUTF16Values_0 7 rfl rfl)
theorem dJ29_compareToUTF16Values_8 : decode cJ29_compareToUTF16Values 8 = .ok (.istore 5, 2) := dk_54 5 (dk_at dksJ29_compareToUTF16Values_0 8 rfl rfl)
theorem dJ29_compareToUTF16Values_10 : decode cJ29_compareToUTF16Values 10 = .ok (.iload 5, 2) := dk_21 5 (dk_at dksJ29_compareToUTF16Values_0 10 rfl rfl)
theorem dJ29_compareToUTF16Values_12 : decode cJ29_compareToUTF16Values 12 = .ok (.iload 4, 2) := dk_21 4 (dk_at dksJ29_compareToUTF16Values_0 12 rfl rfl)
theorem dJ29_compareToUTF16Values_14 : decode cJ29_compareToUTF16Values 14 = .ok (.if_icmp .ge 38, 3) := dk_162 0 38 (dk_at dksJ29_compareToUTF16Values_0 14 rfl rfl)
theorem dJ29_compareToUTF16Values_17 : decode cJ29_compareToUTF16Values 17 = .ok (.aload_n 0, 1) := dk_42 (dk_at dksJ29_compareToUTF16Values_0 17 rfl rfl)
theorem dJ29_compareToUTF16Values_18 : decode cJ29_compareToUTF16Values 18 = .ok (.iload 5, 2) := dk_21 5 (dk_at dksJ29_compareToUTF16Values_0 18 rfl rfl)
theorem dJ29_compareToUTF16Values_20 : decode cJ29_compareToUTF16Values 20 = .ok (.invokestatic 50, 3) := dk_184 0 50 (dk_at dksJ29_compareToUTF16Values_0 20 rfl rfl)
theorem dJ29_compareToUTF16Values_23 : decode cJ29_compareToUTF16Values 23 = .ok (.istore 6, 2) := dk_54 6 (dk_at dksJ29_compareToUTF16Values_1 0 rfl rfl)
theorem dJ29_compareToUTF16Values_25 : decode cJ29_compareToUTF16Values 25 = .ok (.aload_n 1, 1) := dk_43 (dk_at dksJ29_compareToUTF16Values_1 2 rfl rfl)
theorem dJ29_compareToUTF16Values_26 : decode cJ29_compareToUTF16Values 26 = .ok (.iload 5, 2) := dk_21 5 (dk_at dksJ29_compareToUTF16Values_1 3 rfl rfl)
theorem dJ29_compareToUTF16Values_28 : decode cJ29_compareToUTF16Values 28 = .ok (.invokestatic 65, 3) := dk_184 0 65 (dk_at dksJ29_compareToUTF16Values_1 5 rfl rfl)
theorem dJ29_compareToUTF16Values_31 : decode cJ29_compareToUTF16Values 31 = .ok (.istore 7, 2) := dk_54 7 (dk_at dksJ29_compareToUTF16Values_1 8 rfl rfl)
theorem dJ29_compareToUTF16Values_33 : decode cJ29_compareToUTF16Values 33 = .ok (.iload 6, 2) := dk_21 6 (dk_at dksJ29_compareToUTF16Values_1 10 rfl rfl)
theorem dJ29_compareToUTF16Values_35 : decode cJ29_compareToUTF16Values 35 = .ok (.iload 7, 2) := dk_21 7 (dk_at dksJ29_compareToUTF16Values_1 12 rfl rfl)
theorem dJ29_compareToUTF16Values_37 : decode cJ29_compareToUTF16Values 37 = .ok (.if_icmp .eq 9, 3) := dk_159 0 9 (dk_at dksJ29_compareToUTF16Values_1 14 rfl rfl)
theorem dJ29_compareToUTF16Values_40 : decode cJ29_compareToUTF16Values 40 = .ok (.iload 6, 2) := dk_21 6 (dk_at dksJ29_compareToUTF16Values_1 17 rfl rfl)
theorem dJ29_compareToUTF16Values_42 : decode cJ29_compareToUTF16Values 42 = .ok (.iload 7, 2) := dk_21 7 (dk_at dksJ29_compareToUTF16Values_1 19 rfl rfl)
theorem dJ29_compareToUTF16Values_44 : decode cJ29_compareToUTF16Values 44 = .ok (.isub, 1) := dk_100 (dk_at dksJ29_compareToUTF16Values_1 21 rfl rfl)
theorem dJ29_compareToUTF16Values_45 : decode cJ29_compareToUTF16Values 45 = .ok (.ireturn, 1) := dk_172 (dk_at dksJ29_compareToUTF16Values_1 22 rfl rfl)
theorem dJ29_compareToUTF16Values_46 : decode cJ29_compareToUTF16Values 46 = .ok (.iinc 5 1, 3) := dk_132 5 1 (dk_at dksJ29_compareToUTF16Values_2 0 rfl rfl)
theorem dJ29_compareToUTF16Values_49 : decode cJ29_compareToUTF16Values 49 = .ok (.goto (-39), 3) := dk_167 255 217 (dk_at dksJ29_compareToUTF16Values_2 3 rfl rfl)
theorem dJ29_compareToUTF16Values_52 : decode cJ29_compareToUTF16Values 52 = .ok (.iload_n 2, 1) := dk_28 (dk_at dksJ29_compareToUTF16Values_2 6 rfl rfl)
theorem dJ29_compareToUTF16Values_53 : decode cJ29_compareToUTF16Values 53 = .ok (.iload_n 3, 1) := dk_29 (dk_at dksJ29_compareToUTF16Values_2 7 rfl rfl)
theorem dJ29_compareToUTF16Values_54 : decode cJ29_compareToUTF16Values 54 = .ok (.isub, 1) := dk_100 (dk_at dksJ29_compareToUTF16Values_2 8 rfl rfl)
theorem dJ29_compareToUTF16Values_55 : decode cJ29_compareToUTF16Values 55 = .ok (.ireturn, 1) := dk_172 (dk_at dksJ29_compareToUTF16Values_2 9 rfl rfl)
abbrev cJ29_compareToUTF16_2 : ByteArray := prog_28_method_17_code
def yJ29_compareToUTF16_2 : MethodName := ⟨RJ29, "compareToUTF16", "([B[BII)I"⟩
def dkwJ29_compareToUTF16_2_0 : List UInt8 := [28, 42, 184, 0, 54, 184, 0, 62, 29, 43, 184, 0, 58, 184, 0, 62, 42, 43, 28, 29, 184, 0, 59, 172]
abbrev dktJ29_compareToUTF16_2_0 : List UInt8 := dkwJ29_compareToUTF16_2_0 ++ []
theorem dksJ29_compareToUTF16_2_0 : cJ29_compareToUTF16_2.data.toList.drop 0 = dktJ29_compareToUTF16_2_0 := by decide +kernel
theorem dJ29_compareToUTF16_2_0 : decode cJ29_compareToUTF16_2 0 = .ok (.iload_n 2, 1) := dk_28 (dk_at dksJ29_compareToUTF16_2_0 0 rfl rfl)
theorem dJ29_compareToUTF16_2_1 : decode cJ29_compareToUTF16_2 1 = .ok (.aload_n 0, 1) := dk_42 (dk_at dksJ29_compareToUTF16_2_0 1 rfl rfl)
theorem dJ29_compareToUTF16_2_2 : decode cJ29_compareToUTF16_2 2 = .ok (.invokestatic 54, 3) := dk_184 0 54 (dk_at dksJ29_compareToUTF16_2_0 2 rfl rfl)
theorem dJ29_compareToUTF16_2_5 : decode cJ29_compareToUTF16_2 5 = .ok (.invokestatic 62, 3) := dk_184 0 62 (dk_at dksJ29_compareToUTF16_2_0 5 rfl rfl)
theorem dJ29_compareToUTF16_2_8 : decode cJ29_compareToUTF16_2 8 = .ok (.iload_n 3, 1) := dk_29 (dk_at dksJ29_compareToUTF16_2_0 8 rfl rfl)
theorem dJ29_compareToUTF16_2_9 : decode cJ29_compareToUTF16_2 9 = .ok (.aload_n 1, 1) := dk_43 (dk_at dksJ29_compareToUTF16_2_0 9 rfl rfl)
theorem dJ29_compareToUTF16_2_10 : decode cJ29_compareToUTF16_2 10 = .ok (.invokestatic 58, 3) := dk_184 0 58 (dk_at dksJ29_compareToUTF16_2_0 10 rfl rfl)
theorem dJ29_compareToUTF16_2_13 : decode cJ29_compareToUTF16_2 13 = .ok (.invokestatic 62, 3) := dk_184 0 62 (dk_at dksJ29_compareToUTF16_2_0 13 rfl rfl)
theorem dJ29_compareToUTF16_2_16 : decode cJ29_compareToUTF16_2 16 = .ok (.aload_n 0, 1) := dk_42 (dk_at dksJ29_compareToUTF16_2_0 16 rfl rfl)
theorem dJ29_compareToUTF16_2_17 : decode cJ29_compareToUTF16_2 17 = .ok (.aload_n 1, 1) := dk_43 (dk_at dksJ29_compareToUTF16_2_0 17 rfl rfl)
theorem dJ29_compareToUTF16_2_18 : decode cJ29_compareToUTF16_2 18 = .ok (.iload_n 2, 1) := dk_28 (dk_at dksJ29_compareToUTF16_2_0 18 rfl rfl)
theorem dJ29_compareToUTF16_2_19 : decode cJ29_compareToUTF16_2 19 = .ok (.iload_n 3, 1) := dk_29 (dk_at dksJ29_compareToUTF16_2_0 19 rfl rfl)
theorem dJ29_compareToUTF16_2_20 : decode cJ29_compareToUTF16_2 20 = .ok (.invokestatic 59, 3) := dk_184 0 59 (dk_at dksJ29_compareToUTF16_2_0 20 rfl rfl)
theorem dJ29_compareToUTF16_2_23 : decode cJ29_compareToUTF16_2 23 = .ok (.ireturn, 1) := dk_172 (dk_at dksJ29_compareToUTF16_2_0 23 rfl rfl)
abbrev cJ29_equals : ByteArray := prog_28_method_13_code
def yJ29_equals : MethodName := ⟨RJ29, "equals", "([B[B)Z"⟩
def dkwJ29_equals_1 : List UInt8 := [3, 172, 132, 2, 1, 167, 255, 236, 4, 172, 3, 172]
abbrev dktJ29_equals_1 : List UInt8 := dkwJ29_equals_1 ++ []
def dkwJ29_equals_0 : List UInt8 := [42, 190, 43, 190, 160, 0, 30, 3, 61, 28, 42, 190, 162, 0, 20, 42, 28, 51, 43, 28, 51, 159, 0, 5]
abbrev dktJ29_equals_0 : List UInt8 := dkwJ29_equals_0 ++ dktJ29_equals_1
theorem dksJ29_equals_0 : cJ29_equals.data.toList.drop 0 = dktJ29_equals_0 := by decide +kernel
theorem dksJ29_equals_1 : cJ29_equals.data.toList.drop 24 = dktJ29_equals_1 := dk_seg dksJ29_equals_0 24 rfl rfl
theorem dJ29_equals_0 : decode cJ29_equals 0 = .ok (.aload_n 0, 1) := dk_42 (dk_at dksJ29_equals_0 0 rfl rfl)
theorem dJ29_equals_1 : decode cJ29_equals 1 = .ok (.arraylength, 1) := dk_190 (dk_at dksJ29_equals_0 1 rfl rfl)
theorem dJ29_equals_2 : decode cJ29_equals 2 = .ok (.aload_n 1, 1) := dk_43 (dk_at dksJ29_equals_0 2 rfl rfl)
theorem dJ29_equals_3 : decode cJ29_equals 3 = .ok (.arraylength, 1) := dk_190 (dk_at dksJ29_equals_0 3 rfl rfl)
theorem dJ29_equals_4 : decode cJ29_equals 4 = .ok (.if_icmp .ne 30, 3) := dk_160 0 30 (dk_at dksJ29_equals_0 4 rfl rfl)
theorem dJ29_equals_7 : decode cJ29_equals 7 = .ok (.iconst 0, 1) := dk_3 (dk_at dksJ29_equals_0 7 rfl rfl)
theorem dJ29_equals_8 : decode cJ29_equals 8 = .ok (.istore_n 2, 1) := dk_61 (dk_at dksJ29_equals_0 8 rfl rfl)
theorem dJ29_equals_9 : decode cJ29_equals 9 = .ok (.iload_n 2, 1) := dk_28 (dk_at dksJ29_equals_0 9 rfl rfl)
theorem dJ29_equals_10 : decode cJ29_equals 10 = .ok (.aload_n 0, 1) := dk_42 (dk_at dksJ29_equals_0 10 rfl rfl)
theorem dJ29_equals_11 : decode cJ29_equals 11 = .ok (.arraylength, 1) := dk_190 (dk_at dksJ29_equals_0 11 rfl rfl)
theorem dJ29_equals_12 : decode cJ29_equals 12 = .ok (.if_icmp .ge 20, 3) := dk_162 0 20 (dk_at dksJ29_equals_0 12 rfl rfl)
theorem dJ29_equals_15 : decode cJ29_equals 15 = .ok (.aload_n 0, 1) := dk_42 (dk_at dksJ29_equals_0 15 rfl rfl)
theorem dJ29_equals_16 : decode cJ29_equals 16 = .ok (.iload_n 2, 1) := dk_28 (dk_at dksJ29_equals_0 16 rfl rfl)
theorem dJ29_equals_17 : decode cJ29_equals 17 = .ok (.baload, 1) := dk_51 (dk_at dksJ29_equals_0 17 rfl rfl)
theorem dJ29_equals_18 : decode cJ29_equals 18 = .ok (.aload_n 1, 1) := dk_43 (dk_at dksJ29_equals_0 18 rfl rfl)
theorem dJ29_equals_19 : decode cJ29_equals 19 = .ok (.iload_n 2, 1) := dk_28 (dk_at dksJ29_equals_0 19 rfl rfl)
theorem dJ29_equals_20 : decode cJ29_equals 20 = .ok (.baload, 1) := dk_51 (dk_at dksJ29_equals_0 20 rfl rfl)
theorem dJ29_equals_21 : decode cJ29_equals 21 = .ok (.if_icmp .eq 5, 3) := dk_159 0 5 (dk_at dksJ29_equals_0 21 rfl rfl)
theorem dJ29_equals_24 : decode cJ29_equals 24 = .ok (.iconst 0, 1) := dk_3 (dk_at dksJ29_equals_1 0 rfl rfl)
theorem dJ29_equals_25 : decode cJ29_equals 25 = .ok (.ireturn, 1) := dk_172 (dk_at dksJ29_equals_1 1 rfl rfl)
theorem dJ29_equals_26 : decode cJ29_equals 26 = .ok (.iinc 2 1, 3) := dk_132 2 1 (dk_at dksJ29_equals_1 2 rfl rfl)
theorem dJ29_equals_29 : decode cJ29_equals 29 = .ok (.goto (-20), 3) := dk_167 255 236 (dk_at dksJ29_equals_1 5 rfl rfl)
theorem dJ29_equals_32 : decode cJ29_equals 32 = .ok (.iconst 1, 1) := dk_4 (dk_at dksJ29_equals_1 8 rfl rfl)
theorem dJ29_equals_33 : decode cJ29_equals 33 = .ok (.ireturn, 1) := dk_172 (dk_at dksJ29_equals_1 9 rfl rfl)
theorem dJ29_equals_34 : decode cJ29_equals 34 = .ok (.iconst 0, 1) := dk_3 (dk_at dksJ29_equals_1 10 rfl rfl)
theorem dJ29_equals_35 : decode cJ29_equals 35 = .ok (.ireturn, 1) := dk_172 (dk_at dksJ29_equals_1 11 rfl rfl)
abbrev cJ29_canEncode : ByteArray := prog_28_method_3_code
def yJ29_canEncode : MethodName := ⟨RJ29, "canEncode", "(C)Z"⟩
def dkwJ29_canEncode_0 : List UInt8 := [26, 17, 0, 255, 163, 0, 7, 4, 167, 0, 4, 3, 172]
abbrev dktJ29_canEncode_0 : List UInt8 := dkwJ29_canEncode_0 ++ []
theorem dksJ29_canEncode_0 : cJ29_canEncode.data.toList.drop 0 = dktJ29_canEncode_0 := by decide +kernel
theorem dJ29_canEncode_0 : decode cJ29_canEncode 0 = .ok (.iload_n 0, 1) := dk_26 (dk_at dksJ29_canEncode_0 0 rfl rfl)
theorem dJ29_canEncode_1 : decode cJ29_canEncode 1 = .ok (.sipush 255, 3) := dk_17 0 255 (dk_at dksJ29_canEncode_0 1 rfl rfl)
theorem dJ29_canEncode_4 : decode cJ29_canEncode 4 = .ok (.if_icmp .gt 7, 3) := dk_163 0 7 (dk_at dksJ29_canEncode_0 4 rfl rfl)
theorem dJ29_canEncode_7 : decode cJ29_canEncode 7 = .ok (.iconst 1, 1) := dk_4 (dk_at dksJ29_canEncode_0 7 rfl rfl)
theorem dJ29_canEncode_8 : decode cJ29_canEncode 8 = .ok (.goto 4, 3) := dk_167 0 4 (dk_at dksJ29_canEncode_0 8 rfl rfl)
theorem dJ29_canEncode_11 : decode cJ29_canEncode 11 = .ok (.iconst 0, 1) := dk_3 (dk_at dksJ29_canEncode_0 11 rfl rfl)
theorem dJ29_canEncode_12 : decode cJ29_canEncode 12 = .ok (.ireturn, 1) := dk_172 (dk_at dksJ29_canEncode_0 12 rfl rfl)
abbrev cJ29_inflate : ByteArray := prog_28_method_50_code
def yJ29_inflate : MethodName := ⟨RJ29, "inflate", "([BI[BII)V"⟩
def dkwJ29_inflate_0 : List UInt8 := [42, 27, 44, 29, 21, 4, 184, 0, 240, 177]
abbrev dktJ29_inflate_0 : List UInt8 := dkwJ29_inflate_0 ++ []
theorem dksJ29_inflate_0 : cJ29_inflate.data.toList.drop 0 = dktJ29_inflate_0 := by decide +kernel
theorem dJ29_inflate_0 : decode cJ29_inflate 0 = .ok (.aload_n 0, 1) := dk_42 (dk_at dksJ29_inflate_0 0 rfl rfl)
theorem dJ29_inflate_1 : decode cJ29_inflate 1 = .ok (.iload_n 1, 1) := dk_27 (dk_at dksJ29_inflate_0 1 rfl rfl)
theorem dJ29_inflate_2 : decode cJ29_inflate 2 = .ok (.aload_n 2, 1) := dk_44 (dk_at dksJ29_inflate_0 2 rfl rfl)
theorem dJ29_inflate_3 : decode cJ29_inflate 3 = .ok (.iload_n 3, 1) := dk_29 (dk_at dksJ29_inflate_0 3 rfl rfl)
theorem dJ29_inflate_4 : decode cJ29_inflate 4 = .ok (.iload 4, 2) := dk_21 4 (dk_at dksJ29_inflate_0 4 rfl rfl)
theorem dJ29_inflate_6 : decode cJ29_inflate 6 = .ok (.invokestatic 240, 3) := dk_184 0 240 (dk_at dksJ29_inflate_0 6 rfl rfl)
theorem dJ29_inflate_9 : decode cJ29_inflate 9 = .ok (.return_, 1) := dk_177 (dk_at dksJ29_inflate_0 9 rfl rfl)
abbrev cJ29_charAt : ByteArray := prog_28_method_2_code
def yJ29_charAt : MethodName := ⟨RJ29, "charAt", "([BI)C"⟩
def dkwJ29_charAt_0 : List UInt8 := [27, 42, 190, 184, 0, 9, 42, 27, 51, 17, 0, 255, 126, 146, 172]
abbrev dktJ29_charAt_0 : List UInt8 := dkwJ29_charAt_0 ++ []
theorem dksJ29_charAt_0 : cJ29_charAt.data.toList.drop 0 = dktJ29_charAt_0 := by decide +kernel
theorem dJ29_charAt_0 : decode cJ29_charAt 0 = .ok (.iload_n 1, 1) := dk_27 (dk_at dksJ29_charAt_0 0 rfl rfl)
theorem dJ29_charAt_1 : decode cJ29_charAt 1 = .ok (.aload_n 0, 1) := dk_42 (dk_at dksJ29_charAt_0 1 rfl rfl)
theorem dJ29_charAt_2 : decode cJ29_charAt 2 = .ok (.arraylength, 1) := dk_190 (dk_at dksJ29_charAt_0 2 rfl rfl)
theorem dJ29_charAt_3 : decode cJ29_charAt 3 = .ok (.invokestatic 9, 3) := dk_184 0 9 (dk_at dksJ29_charAt_0 3 rfl rfl)
theorem dJ29_charAt_6 : decode cJ29_charAt 6 = .ok (.aload_n 0, 1) := dk_42 (dk_at dksJ29_charAt_0 6 rfl rfl)
theorem dJ29_charAt_7 : decode cJ29_charAt 7 = .ok (.iload_n 1, 1) := dk_27 (dk_at dksJ29_charAt_0 7 rfl rfl)
theorem dJ29_charAt_8 : decode cJ29_charAt 8 = .ok (.baload, 1) := dk_51 (dk_at dksJ29_charAt_0 8 rfl rfl)
theorem dJ29_charAt_9 : decode cJ29_charAt 9 = .ok (.sipush 255, 3) := dk_17 0 255 (dk_at dksJ29_charAt_0 9 rfl rfl)
theorem dJ29_charAt_12 : decode cJ29_charAt 12 = .ok (.iand, 1) := dk_126 (dk_at dksJ29_charAt_0 12 rfl rfl)
theorem dJ29_charAt_13 : decode cJ29_charAt 13 = .ok (.i2c, 1) := dk_146 (dk_at dksJ29_charAt_0 13 rfl rfl)
theorem dJ29_charAt_14 : decode cJ29_charAt 14 = .ok (.ireturn, 1) := dk_172 (dk_at dksJ29_charAt_0 14 rfl rfl)
abbrev cJ29_fillNull : ByteArray := prog_28_method_48_code
def yJ29_fillNull : MethodName := ⟨RJ29, "fillNull", "([BII)V"⟩
def dkwJ29_fillNull_0 : List UInt8 := [42, 27, 28, 3, 184, 0, 236, 177]
abbrev dktJ29_fillNull_0 : List UInt8 := dkwJ29_fillNull_0 ++ []
theorem dksJ29_fillNull_0 : cJ29_fillNull.data.toList.drop 0 = dktJ29_fillNull_0 := by decide +kernel
theorem dJ29_fillNull_0 : decode cJ29_fillNull 0 = .ok (.aload_n 0, 1) := dk_42 (dk_at dksJ29_fillNull_0 0 rfl rfl)
theorem dJ29_fillNull_1 : decode cJ29_fillNull 1 = .ok (.iload_n 1, 1) := dk_27 (dk_at dksJ29_fillNull_0 1 rfl rfl)
theorem dJ29_fillNull_2 : decode cJ29_fillNull 2 = .ok (.iload_n 2, 1) := dk_28 (dk_at dksJ29_fillNull_0 2 rfl rfl)
theorem dJ29_fillNull_3 : decode cJ29_fillNull 3 = .ok (.iconst 0, 1) := dk_3 (dk_at dksJ29_fillNull_0 3 rfl rfl)
theorem dJ29_fillNull_4 : decode cJ29_fillNull 4 = .ok (.invokestatic 236, 3) := dk_184 0 236 (dk_at dksJ29_fillNull_0 4 rfl rfl)
theorem dJ29_fillNull_7 : decode cJ29_fillNull 7 = .ok (.return_, 1) := dk_177 (dk_at dksJ29_fillNull_0 7 rfl rfl)
theorem q125 : (Jvm.Cond.initialized "java/lang/StringLatin1") ∈ lw_all := lw_g (lw_at lw_m1 38 rfl) rfl
theorem q1011 : (Jvm.Cond.static ({ cls := "java/lang/StringLatin1", name := "hashCode", desc := "([B)I" } : Jvm.MethodName)) ∈ lw_all := lw_g (lw_at lw_m4 204 rfl) rfl
theorem q1012 : (Jvm.Cond.code ({ cls := "java/lang/StringLatin1", name := "hashCode", desc := "([B)I" } : Jvm.MethodName) prog_28_method_21_code (1 : Nat) (Option.some Jvm.ClassFile.FieldType.int)) ∈ lw_all := lw_g (lw_at lw_m4 205 rfl) rfl
theorem q1013 : (Jvm.Cond.methodLink "java/lang/StringLatin1" (84 : Nat) ({ cls := "jdk/internal/util/ArraysSupport", name := "vectorizedHashCode", desc := "(Ljava/lang/Object;IIII)I" } : Jvm.MethodName)) ∈ lw_all := lw_g (lw_at lw_m4 206 rfl) rfl
theorem q1204 : (Jvm.Cond.static ({ cls := "java/lang/StringLatin1", name := "compareTo", desc := "([B[B)I" } : Jvm.MethodName)) ∈ lw_all := lw_g (lw_at lw_m5 157 rfl) rfl
theorem q1205 : (Jvm.Cond.code ({ cls := "java/lang/StringLatin1", name := "compareTo", desc := "([B[B)I" } : Jvm.MethodName) prog_28_method_14_code (4 : Nat) (Option.some Jvm.ClassFile.FieldType.int)) ∈ lw_all := lw_g (lw_at lw_m5 158 rfl) rfl
theorem q1206 : (Jvm.Cond.methodLink "java/lang/StringLatin1" (34 : Nat) ({ cls := "java/lang/StringLatin1", name := "compareTo", desc := "([B[BII)I" } : Jvm.MethodName)) ∈ lw_all := lw_g (lw_at lw_m5 159 rfl) rfl
theorem q1207 : (Jvm.Cond.static ({ cls := "java/lang/StringLatin1", name := "compareTo", desc := "([B[BII)I" } : Jvm.MethodName)) ∈ lw_all := lw_g (lw_at lw_m5 160 rfl) rfl
theorem q1208 : (Jvm.Cond.code ({ cls := "java/lang/StringLatin1", name := "compareTo", desc := "([B[BII)I" } : Jvm.MethodName) prog_28_method_15_code (6 : Nat) (Option.some Jvm.ClassFile.FieldType.int)) ∈ lw_all := lw_g (lw_at lw_m5 161 rfl) rfl
theorem q1209 : (Jvm.Cond.methodLink "java/lang/StringLatin1" (38 : Nat) ({ cls := "java/lang/Math", name := "min", desc := "(II)I" } : Jvm.MethodName)) ∈ lw_all := lw_g (lw_at lw_m5 162 rfl) rfl
theorem q1210 : (Jvm.Cond.methodLink "java/lang/StringLatin1" (44 : Nat) ({ cls := "jdk/internal/util/ArraysSupport", name := "mismatch", desc := "([B[BI)I" } : Jvm.MethodName)) ∈ lw_all := lw_g (lw_at lw_m5 163 rfl) rfl
theorem q1311 : (Jvm.Cond.methodLink "java/lang/StringLatin1" (50 : Nat) ({ cls := "java/lang/StringLatin1", name := "getChar", desc := "([BI)C" } : Jvm.MethodName)) ∈ lw_all := lw_g (lw_at lw_m6 24 rfl) rfl
theorem q1312 : (Jvm.Cond.static ({ cls := "java/lang/StringLatin1", name := "getChar", desc := "([BI)C" } : Jvm.MethodName)) ∈ lw_all := lw_g (lw_at lw_m6 25 rfl) rfl
theorem q1313 : (Jvm.Cond.code ({ cls := "java/lang/StringLatin1", name := "getChar", desc := "([BI)C" } : Jvm.MethodName) prog_28_method_44_code (2 : Nat) (Option.some Jvm.ClassFile.FieldType.char)) ∈ lw_all := lw_g (lw_at lw_m6 26 rfl) rfl
theorem q1322 : (Jvm.Cond.static ({ cls := "java/lang/StringLatin1", name := "compareToUTF16", desc := "([B[B)I" } : Jvm.MethodName)) ∈ lw_all := lw_g (lw_at lw_m6 35 rfl) rfl
theorem q1323 : (Jvm.Cond.code ({ cls := "java/lang/StringLatin1", name := "compareToUTF16", desc := "([B[B)I" } : Jvm.MethodName) prog_28_method_16_code (4 : Nat) (Option.some Jvm.ClassFile.FieldType.int)) ∈ lw_all := lw_g (lw_at lw_m6 36 rfl) rfl
theorem q1324 : (Jvm.Cond.methodLink "java/lang/StringLatin1" (54 : Nat) ({ cls := "java/lang/StringLatin1", name := "length", desc := "([B)I" } : Jvm.MethodName)) ∈ lw_all := lw_g (lw_at lw_m6 37 rfl) rfl
theorem q1325 : (Jvm.Cond.static ({ cls := "java/lang/StringLatin1", name := "length", desc := "([B)I" } : Jvm.MethodName)) ∈ lw_all := lw_g (lw_at lw_m6 38 rfl) rfl
theorem q1326 : (Jvm.Cond.code ({ cls := "java/lang/StringLatin1", name := "length", desc := "([B)I" } : Jvm.MethodName) prog_28_method_5_code (1 : Nat) (Option.some Jvm.ClassFile.FieldType.int)) ∈ lw_all := lw_g (lw_at lw_m6 39 rfl) rfl
theorem q1327 : (Jvm.Cond.methodLink "java/lang/StringLatin1" (58 : Nat) ({ cls := "java/lang/StringUTF16", name := "length", desc := "([B)I" } : Jvm.MethodName)) ∈ lw_all := lw_g (lw_at lw_m6 40 rfl) rfl
theorem q1328 : (Jvm.Cond.methodLink "java/lang/StringLatin1" (59 : Nat) ({ cls := "java/lang/StringLatin1", name := "compareToUTF16Values", desc := "([B[BII)I" } : Jvm.MethodName)) ∈ lw_all := lw_g (lw_at lw_m6 41 rfl) rfl
theorem q1329 : (Jvm.Cond.static ({ cls := "java/lang/StringLatin1", name := "compareToUTF16Values", desc := "([B[BII)I" } : Jvm.MethodName)) ∈ lw_all := lw_g (lw_at lw_m6 42 rfl) rfl
theorem q1330 : (Jvm.Cond.code ({ cls := "java/lang/StringLatin1", name := "compareToUTF16Values", desc := "([B[BII)I" } : Jvm.MethodName) prog_28_method_18_code (8 : Nat) (Option.some Jvm.ClassFile.FieldType.int)) ∈ lw_all := lw_g (lw_at lw_m6 43 rfl) rfl
theorem q1331 : (Jvm.Cond.methodLink "java/lang/StringLatin1" (65 : Nat) ({ cls := "java/lang/StringUTF16", name := "getChar", desc := "([BI)C" } : Jvm.MethodName)) ∈ lw_all := lw_g (lw_at lw_m6 44 rfl) rfl
theorem q1371 : (Jvm.Cond.static ({ cls := "java/lang/StringLatin1", name := "compareToUTF16", desc := "([B[BII)I" } : Jvm.MethodName)) ∈ lw_all := lw_g (lw_at lw_m6 84 rfl) rfl
theorem q1372 : (Jvm.Cond.code ({ cls := "java/lang/StringLatin1", name := "compareToUTF16", desc := "([B[BII)I" } : Jvm.MethodName) prog_28_method_17_code (4 : Nat) (Option.some Jvm.ClassFile.FieldType.int)) ∈ lw_all := lw_g (lw_at lw_m6 85 rfl) rfl
theorem q1373 : (Jvm.Cond.methodLink "java/lang/StringLatin1" (62 : Nat) ({ cls := "java/lang/String", name := "checkOffset", desc := "(II)V" } : Jvm.MethodName)) ∈ lw_all := lw_g (lw_at lw_m6 86 rfl) rfl
theorem q1431 : (Jvm.Cond.static ({ cls := "java/lang/StringLatin1", name := "equals", desc := "([B[B)Z" } : Jvm.MethodName)) ∈ lw_all := lw_g (lw_at lw_m6 144 rfl) rfl
theorem q1432 : (Jvm.Cond.code ({ cls := "java/lang/StringLatin1", name := "equals", desc := "([B[B)Z" } : Jvm.MethodName) prog_28_method_13_code (3 : Nat) (Option.some Jvm.ClassFile.FieldType.boolean)) ∈ lw_all := lw_g (lw_at lw_m6 145 rfl) rfl
theorem q2004 : (Jvm.Cond.static ({ cls := "java/lang/StringLatin1", name := "canEncode", desc := "(C)Z" } : Jvm.MethodName)) ∈ lw_all := lw_g (lw_at lw_m8 237 rfl) rfl
theorem q2005 : (Jvm.Cond.code ({ cls := "java/lang/StringLatin1", name := "canEncode", desc := "(C)Z" } : Jvm.MethodName) prog_28_method_3_code (1 : Nat) (Option.some Jvm.ClassFile.FieldType.boolean)) ∈ lw_all := lw_g (lw_at lw_m8 238 rfl) rfl
theorem q2011 : (Jvm.Cond.static ({ cls := "java/lang/StringLatin1", name := "inflate", desc := "([BI[BII)V" } : Jvm.MethodName)) ∈ lw_all := lw_g (lw_at lw_m9 4 rfl) rfl
theorem q2012 : (Jvm.Cond.code ({ cls := "java/lang/StringLatin1", name := "inflate", desc := "([BI[BII)V" } : Jvm.MethodName) prog_28_method_50_code (5 : Nat) (Option.none : Option Jvm.ClassFile.FieldType)) ∈ lw_all := lw_g (lw_at lw_m9 5 rfl) rfl
theorem q2013 : (Jvm.Cond.methodLink "java/lang/StringLatin1" (240 : Nat) ({ cls := "java/lang/StringUTF16", name := "inflate", desc := "([BI[BII)V" } : Jvm.MethodName)) ∈ lw_all := lw_g (lw_at lw_m9 6 rfl) rfl
theorem q2104 : (Jvm.Cond.static ({ cls := "java/lang/StringLatin1", name := "charAt", desc := "([BI)C" } : Jvm.MethodName)) ∈ lw_all := lw_g (lw_at lw_m9 97 rfl) rfl
theorem q2105 : (Jvm.Cond.code ({ cls := "java/lang/StringLatin1", name := "charAt", desc := "([BI)C" } : Jvm.MethodName) prog_28_method_2_code (2 : Nat) (Option.some Jvm.ClassFile.FieldType.char)) ∈ lw_all := lw_g (lw_at lw_m9 98 rfl) rfl
theorem q2106 : (Jvm.Cond.methodLink "java/lang/StringLatin1" (9 : Nat) ({ cls := "java/lang/String", name := "checkIndex", desc := "(II)V" } : Jvm.MethodName)) ∈ lw_all := lw_g (lw_at lw_m9 99 rfl) rfl
theorem q2220 : (Jvm.Cond.static ({ cls := "java/lang/StringLatin1", name := "fillNull", desc := "([BII)V" } : Jvm.MethodName)) ∈ lw_all := lw_g (lw_at lw_m9 213 rfl) rfl
theorem q2221 : (Jvm.Cond.code ({ cls := "java/lang/StringLatin1", name := "fillNull", desc := "([BII)V" } : Jvm.MethodName) prog_28_method_48_code (3 : Nat) (Option.none : Option Jvm.ClassFile.FieldType)) ∈ lw_all := lw_g (lw_at lw_m9 214 rfl) rfl
theorem q2222 : (Jvm.Cond.methodLink "java/lang/StringLatin1" (236 : Nat) ({ cls := "java/util/Arrays", name := "fill", desc := "([BIIB)V" } : Jvm.MethodName)) ∈ lw_all := lw_g (lw_at lw_m9 215 rfl) rfl
/-! java/util/HashMap$Node -/
set_option maxRecDepth 100000
def RJ30 : String := "java/util/HashMap$Node"
abbrev cJ30_getKey : ByteArray := prog_51_method_2_code
def yJ30_getKey : MethodName := ⟨RJ30, "getKey", "()Ljava/lang/Object;"⟩
theorem dJ30_getKey_0 : decode cJ30_getKey 0 = .ok (.aload_n 0, 1) := by decide +kernel
theorem dJ30_getKey_1 : decode cJ30_getKey 1 = .ok (.getfield 13, 3) := by decide +kernel
theorem dJ30_getKey_4 : decode cJ30_getKey 4 = .ok (.areturn, 1) := by decide +kernel
abbrev cJ30_init : ByteArray := prog_51_method_1_code
def yJ30_init : MethodName := ⟨RJ30, "<init>", "(ILjava/lang/Object;Ljava/lang/Object;Ljava/util/HashMap$Node;)V"⟩
def dkwJ30_init_1 : List UInt8 := [181, 0, 20, 177]
abbrev dktJ30_init_1 : List UInt8 := dkwJ30_init_1 ++ []
def dkwJ30_init_0 : List UInt8 := [42, 183, 0, 1, 42, 27, 181, 0, 7, 42, 44, 181, 0, 13, 42, 45, 181, 0, 17, 42, 25, 4]
abbrev dktJ30_init_0 : List UInt8 := dkwJ30_init_0 ++ dktJ30_init_1
theorem dksJ30_init_0 : cJ30_init.data.toList.drop 0 = dktJ30_init_0 := by decide +kernel
theorem dksJ30_init_1 : cJ30_init.data.toList.drop 22 = dktJ30_init_1 := dk_seg dksJ30_init_0 22 rfl rfl
theorem dJ30_init_0 : decode cJ30_init 0 = .ok (.aload_n 0, 1) := dk_42 (dk_at dksJ30_init_0 0 rfl rfl)
theorem dJ30_init_1 : decode cJ30_init 1 = .ok (.invokespecial 1, 3) := dk_183 0 1 (dk_at dksJ30_init_0 1 rfl rfl)
theorem dJ30_init_4 : decode cJ30_init 4 = .ok (.aload_n 0, 1) := dk_42 (dk_at dksJ30_init_0 4 rfl rfl)
theorem dJ30_init_5 : decode cJ30_init 5 = .ok (.iload_n 1, 1) := dk_27 (dk_at dksJ30_init_0 5 rfl rfl)
theorem dJ30_init_6 : decode cJ30_init 6 = .ok (.putfield 7, 3) := dk_181 0 7 (dk_at dksJ30_init_0 6 rfl rfl)
theorem dJ30_init_9 : decode cJ30_init 9 = .ok (.aload_n 0, 1) := dk_42 (dk_at dksJ30_init_0 9 rfl rfl)
theorem dJ30_init_10 : decode cJ30_init 10 = .ok (.aload_n 2, 1) := dk_44 (dk_at dksJ30_init_0 10 rfl rfl)
theorem dJ30_init_11 : decode cJ30_init 11 = .ok (.putfield 13, 3) := dk_181 0 13 (dk_at dksJ30_init_0 11 rfl rfl)
theorem dJ30_init_14 : decode cJ30_init 14 = .ok (.aload_n 0, 1) := dk_42 (dk_at dksJ30_init_0 14 rfl rfl)
theorem dJ30_init_15 : decode cJ30_init 15 = .ok (.aload_n 3, 1) := dk_45 (dk_at dksJ30_init_0 15 rfl rfl)
theorem dJ30_init_16 : decode cJ30_init 16 = .ok (.putfield 17, 3) := dk_181 0 17 (dk_at dksJ30_init_0 16 rfl rfl)
theorem dJ30_init_19 : decode cJ30_init 19 = .ok (.aload_n 0, 1) := dk_42 (dk_at dksJ30_init_0 19 rfl rfl)
theorem dJ30_init_20 : decode cJ30_init 20 = .ok (.aload 4, 2) := dk_25 4 (dk_at dksJ30_init_0 20 rfl rfl)
theorem dJ30_init_22 : decode cJ30_init 22 = .ok (.putfield 20, 3) := dk_181 0 20 (dk_at dksJ30_init_1 0 rfl rfl)
theorem dJ30_init_25 : decode cJ30_init 25 = .ok (.return_, 1) := dk_177 (dk_at dksJ30_init_1 3 rfl rfl)
theorem q126 : (Jvm.Cond.initialized "java/util/HashMap$Node") ∈ lw_all := lw_g (lw_at lw_m1 39 rfl) rfl
theorem q397 : (Jvm.Cond.declares ({ cls := "java/util/HashMap$Node", name := "getKey", desc := "()Ljava/lang/Object;" } : Jvm.MethodName)) ∈ lw_tbl := lw_at lw_m2 70 rfl
theorem q400 : (Jvm.Cond.instanceMethod ({ cls := "java/util/HashMap$Node", name := "getKey", desc := "()Ljava/lang/Object;" } : Jvm.MethodName)) ∈ lw_all := lw_g (lw_at lw_m2 73 rfl) rfl
theorem q401 : (Jvm.Cond.code ({ cls := "java/util/HashMap$Node", name := "getKey", desc := "()Ljava/lang/Object;" } : Jvm.MethodName) prog_51_method_2_code (1 : Nat) (Option.some (Jvm.ClassFile.FieldType.object "java/lang/Object"))) ∈ lw_all := lw_g (lw_at lw_m2 74 rfl) rfl
theorem q476 : (Jvm.Cond.selects "java/util/HashMap$Node" ({ cls := "java/lang/Object", name := "getClass", desc := "()Ljava/lang/Class;" } : Jvm.MethodName) ({ cls := "java/lang/Object", name := "getClass", desc := "()Ljava/lang/Class;" } : Jvm.MethodName)) ∈ lw_all := lw_g (lw_at lw_m2 149 rfl) rfl
theorem q1107 : (Jvm.Cond.instanceMethod ({ cls := "java/util/HashMap$Node", name := "<init>", desc := "(ILjava/lang/Object;Ljava/lang/Object;Ljava/util/HashMap$Node;)V" } : Jvm.MethodName)) ∈ lw_all := lw_g (lw_at lw_m5 60 rfl) rfl
theorem q1108 : (Jvm.Cond.code ({ cls := "java/util/HashMap$Node", name := "<init>", desc := "(ILjava/lang/Object;Ljava/lang/Object;Ljava/util/HashMap$Node;)V" } : Jvm.MethodName) prog_51_method_1_code (5 : Nat) (Option.none : Option Jvm.ClassFile.FieldType)) ∈ lw_all := lw_g (lw_at lw_m5 61 rfl) rfl
theorem q1109 : (Jvm.Cond.methodLink "java/util/HashMap$Node" (1 : Nat) ({ cls := "java/lang/Object", name := "<init>", desc := "()V" } : Jvm.MethodName)) ∈ lw_all := lw_g (lw_at lw_m5 62 rfl) rfl
theorem q1114 : (Jvm.Cond.fieldLink "java/util/HashMap$Node" (7 : Nat) "java/util/HashMap$Node" "hash" "I") ∈ lw_all := lw_g (lw_at lw_m5 67 rfl) rfl
theorem q1120 : (Jvm.Cond.fieldLink "java/util/HashMap$Node" (13 : Nat) "java/util/HashMap$Node" "key" "Ljava/lang/Object;") ∈ lw_all := lw_g (lw_at lw_m5 73 rfl) rfl
theorem q1127 : (Jvm.Cond.fieldLink "java/util/HashMap$Node" (17 : Nat) "java/util/HashMap$Node" "value" "Ljava/lang/Object;") ∈ lw_all := lw_g (lw_at lw_m5 80 rfl) rfl
theorem q1132 : (Jvm.Cond.fieldLink "java/util/HashMap$Node" (20 : Nat) "java/util/HashMap$Node" "next" "Ljava/util/HashMap$Node;") ∈ lw_all := lw_g (lw_at lw_m5 85 rfl) rfl
theorem q1144 : (Jvm.Cond.soleField "java/util/HashMap$Node" "hash") ∈ lw_all := lw_g (lw_at lw_m5 97 rfl) rfl
theorem q1146 : (Jvm.Cond.soleField "java/util/HashMap$Node" "key") ∈ lw_all := lw_g (lw_at lw_m5 99 rfl) rfl
theorem q1148 : (Jvm.Cond.soleField "java/util/HashMap$Node" "value") ∈ lw_all := lw_g (lw_at lw_m5 101 rfl) rfl
theorem q1150 : (Jvm.Cond.soleField "java/util/HashMap$Node" "next") ∈ lw_all := lw_g (lw_at lw_m5 103 rfl) rfl
theorem q2885 : (Jvm.Cond.castable "java/util/HashMap$Node" "java/lang/Object") ∈ lw_tbl := lw_at lw_m12 158 rfl
/-! java/util/LinkedHashMap$Entry -/
set_option maxRecDepth 100000
def RJ31 : String := "java/util/LinkedHashMap$Entry"
def TJ31 : u_T := fun k => match k with
  | 0 => ("java/util/HashMap$Node", "hash", "I", true)
  | 1 => ("java/util/HashMap$Node", "key", "Ljava/lang/Object;", true)
  | 2 => ("java/util/HashMap$Node", "value", "Ljava/lang/Object;", false)
  | 3 => ("java/util/HashMap$Node", "next", "Ljava/util/HashMap$Node;", false)
  | 4 => ("java/util/LinkedHashMap$Entry", "before", "Ljava/util/LinkedHashMap$Entry;", false)
  | _ => ("java/util/LinkedHashMap$Entry", "after", "Ljava/util/LinkedHashMap$Entry;", false)
def tyJ31 : Nat → FieldType := fun k => match k with
  | 0 => .int
  | 1 => .object "java/lang/Object"
  | 2 => .object "java/lang/Object"
  | 3 => .object "java/util/HashMap$Node"
  | 4 => .object "java/util/LinkedHashMap$Entry"
  | _ => .object "java/util/LinkedHashMap$Entry"
abbrev wsJ310 : List Cond := u_ws RJ31 TJ31 6
theorem nmJ31 : ∀ a, a < 6 → ∀ b, b < 6 → a ≠ b → (TJ31 a).2.1 ≠ (TJ31 b).2.1 := by decide +kernel
theorem tyJ31_ok : ∀ k, k < 6 → parseFieldDescriptor (TJ31 k).2.2.1 = some (tyJ31 k) := by decide +kernel
abbrev cJ31_init : ByteArray := prog_56_method_1_code
def yJ31_init : MethodName := ⟨RJ31, "<init>", "(ILjava/lang/Object;Ljava/lang/Object;Ljava/util/HashMap$Node;)V"⟩
def dkwJ31_init_0 : List UInt8 := [42, 27, 44, 45, 25, 4, 183, 0, 1, 177]
abbrev dktJ31_init_0 : List UInt8 := dkwJ31_init_0 ++ []
theorem dksJ31_init_0 : cJ31_init.data.toList.drop 0 = dktJ31_init_0 := by decide +kernel
theorem dJ31_init_0 : decode cJ31_init 0 = .ok (.aload_n 0, 1) := dk_42 (dk_at dksJ31_init_0 0 rfl rfl)
theorem dJ31_init_1 : decode cJ31_init 1 = .ok (.iload_n 1, 1) := dk_27 (dk_at dksJ31_init_0 1 rfl rfl)
theorem dJ31_init_2 : decode cJ31_init 2 = .ok (.aload_n 2, 1) := dk_44 (dk_at dksJ31_init_0 2 rfl rfl)
theorem dJ31_init_3 : decode cJ31_init 3 = .ok (.aload_n 3, 1) := dk_45 (dk_at dksJ31_init_0 3 rfl rfl)
theorem dJ31_init_4 : decode cJ31_init 4 = .ok (.aload 4, 2) := dk_25 4 (dk_at dksJ31_init_0 4 rfl rfl)
theorem dJ31_init_6 : decode cJ31_init 6 = .ok (.invokespecial 1, 3) := dk_183 0 1 (dk_at dksJ31_init_0 6 rfl rfl)
theorem dJ31_init_9 : decode cJ31_init 9 = .ok (.return_, 1) := dk_177 (dk_at dksJ31_init_0 9 rfl rfl)
theorem q127 : (Jvm.Cond.initialized "java/util/LinkedHashMap$Entry") ∈ lw_all := lw_g (lw_at lw_m1 40 rfl) rfl
theorem q396 : (Jvm.Cond.sameMethod "java/util/LinkedHashMap$Entry" "java/util/HashMap$Node" "getKey" "()Ljava/lang/Object;") ∈ lw_all := lw_g (lw_at lw_m2 69 rfl) rfl
theorem q399 : (Jvm.Cond.selects "java/util/LinkedHashMap$Entry" ({ cls := "java/util/LinkedHashMap$Entry", name := "getKey", desc := "()Ljava/lang/Object;" } : Jvm.MethodName) ({ cls := "java/util/HashMap$Node", name := "getKey", desc := "()Ljava/lang/Object;" } : Jvm.MethodName)) ∈ lw_all := lw_g (lw_at lw_m2 72 rfl) rfl
theorem q479 : (Jvm.Cond.selects "java/util/LinkedHashMap$Entry" ({ cls := "java/lang/Object", name := "getClass", desc := "()Ljava/lang/Class;" } : Jvm.MethodName) ({ cls := "java/lang/Object", name := "getClass", desc := "()Ljava/lang/Class;" } : Jvm.MethodName)) ∈ lw_all := lw_g (lw_at lw_m2 152 rfl) rfl
theorem q1102 : (Jvm.Cond.instantiable "java/util/LinkedHashMap$Entry" (6 : Nat)) ∈ lw_all := lw_g (lw_at lw_m5 55 rfl) rfl
theorem q1104 : (Jvm.Cond.instanceMethod ({ cls := "java/util/LinkedHashMap$Entry", name := "<init>", desc := "(ILjava/lang/Object;Ljava/lang/Object;Ljava/util/HashMap$Node;)V" } : Jvm.MethodName)) ∈ lw_all := lw_g (lw_at lw_m5 57 rfl) rfl
theorem q1105 : (Jvm.Cond.code ({ cls := "java/util/LinkedHashMap$Entry", name := "<init>", desc := "(ILjava/lang/Object;Ljava/lang/Object;Ljava/util/HashMap$Node;)V" } : Jvm.MethodName) prog_56_method_1_code (5 : Nat) (Option.none : Option Jvm.ClassFile.FieldType)) ∈ lw_all := lw_g (lw_at lw_m5 58 rfl) rfl
theorem q1106 : (Jvm.Cond.methodLink "java/util/LinkedHashMap$Entry" (1 : Nat) ({ cls := "java/util/HashMap$Node", name := "<init>", desc := "(ILjava/lang/Object;Ljava/lang/Object;Ljava/util/HashMap$Node;)V" } : Jvm.MethodName)) ∈ lw_all := lw_g (lw_at lw_m5 59 rfl) rfl
theorem q1118 : (Jvm.Cond.sameField "java/util/LinkedHashMap$Entry" "java/util/HashMap$Node" "hash" "I") ∈ lw_all := lw_g (lw_at lw_m5 71 rfl) rfl
theorem q1125 : (Jvm.Cond.sameField "java/util/LinkedHashMap$Entry" "java/util/HashMap$Node" "key" "Ljava/lang/Object;") ∈ lw_all := lw_g (lw_at lw_m5 78 rfl) rfl
theorem q1129 : (Jvm.Cond.sameField "java/util/LinkedHashMap$Entry" "java/util/HashMap$Node" "value" "Ljava/lang/Object;") ∈ lw_all := lw_g (lw_at lw_m5 82 rfl) rfl
theorem q1139 : (Jvm.Cond.lays "java/util/LinkedHashMap$Entry" "java/util/LinkedHashMap$Entry" "before" "Ljava/util/LinkedHashMap$Entry;") ∈ lw_all := lw_g (lw_at lw_m5 92 rfl) rfl
theorem q1140 : (Jvm.Cond.soleField "java/util/LinkedHashMap$Entry" "before") ∈ lw_all := lw_g (lw_at lw_m5 93 rfl) rfl
theorem q1141 : (Jvm.Cond.lays "java/util/LinkedHashMap$Entry" "java/util/LinkedHashMap$Entry" "after" "Ljava/util/LinkedHashMap$Entry;") ∈ lw_all := lw_g (lw_at lw_m5 94 rfl) rfl
theorem q1142 : (Jvm.Cond.soleField "java/util/LinkedHashMap$Entry" "after") ∈ lw_all := lw_g (lw_at lw_m5 95 rfl) rfl
theorem q1143 : (Jvm.Cond.laysFinal "java/util/LinkedHashMap$Entry" "java/util/HashMap$Node" "hash" "I") ∈ lw_all := lw_g (lw_at lw_m5 96 rfl) rfl
theorem q1145 : (Jvm.Cond.laysFinal "java/util/LinkedHashMap$Entry" "java/util/HashMap$Node" "key" "Ljava/lang/Object;") ∈ lw_all := lw_g (lw_at lw_m5 98 rfl) rfl
theorem q1147 : (Jvm.Cond.lays "java/util/LinkedHashMap$Entry" "java/util/HashMap$Node" "value" "Ljava/lang/Object;") ∈ lw_all := lw_g (lw_at lw_m5 100 rfl) rfl
theorem q1149 : (Jvm.Cond.lays "java/util/LinkedHashMap$Entry" "java/util/HashMap$Node" "next" "Ljava/util/HashMap$Node;") ∈ lw_all := lw_g (lw_at lw_m5 102 rfl) rfl
theorem q1151 : (Jvm.Cond.superclass "java/util/LinkedHashMap$Entry" "java/util/HashMap$Node") ∈ lw_all := lw_g (lw_at lw_m5 104 rfl) rfl
theorem q2904 : (Jvm.Cond.castable "java/util/LinkedHashMap$Entry" "java/lang/Object") ∈ lw_tbl := lw_at lw_m12 177 rfl
theorem q2916 : (Jvm.Cond.castable "java/util/LinkedHashMap$Entry" "java/util/HashMap$Node") ∈ lw_tbl := lw_at lw_m12 189 rfl
theorem in_J31 : ∀ w ∈ wsJ310, w ∈ lw_all := lw_in wsJ310 [1143, 1145, 1147, 1149, 1139, 1141] (by decide +kernel) (by decide +kernel)
