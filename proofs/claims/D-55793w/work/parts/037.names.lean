/-! java/lang/Long -/
set_option maxRecDepth 100000
def RJ33 : String := "java/lang/Long"
abbrev cJ33_numberOfLeadingZeros : ByteArray := prog_23_method_48_code
def yJ33_numberOfLeadingZeros : MethodName := ⟨RJ33, "numberOfLeadingZeros", "(J)I"⟩
def dkwJ33_numberOfLeadingZeros_1 : List UInt8 := [184, 1, 52, 172]
abbrev dktJ33_numberOfLeadingZeros_1 : List UInt8 := dkwJ33_numberOfLeadingZeros_1 ++ []
def dkwJ33_numberOfLeadingZeros_0 : List UInt8 := [30, 16, 32, 125, 136, 61, 28, 154, 0, 14, 16, 32, 30, 136, 184, 1, 52, 96, 167, 0, 7, 28]
abbrev dktJ33_numberOfLeadingZeros_0 : List UInt8 := dkwJ33_numberOfLeadingZeros_0 ++ dktJ33_numberOfLeadingZeros_1
theorem dksJ33_numberOfLeadingZeros_0 : cJ33_numberOfLeadingZeros.data.toList.drop 0 = dktJ33_numberOfLeadingZeros_0 := by decide +kernel
theorem dksJ33_numberOfLeadingZeros_1 : cJ33_numberOfLeadingZeros.data.toList.drop 22 = dktJ33_numberOfLeadingZeros_1 := dk_seg dksJ33_numberOfLeadingZeros_0 22 rfl rfl
theorem dJ33_numberOfLeadingZeros_0 : decode cJ33_numberOfLeadingZeros 0 = .ok (.lload_n 0, 1) := dk_30 (dk_at dksJ33_numberOfLeadingZeros_0 0 rfl rfl)
theorem dJ33_numberOfLeadingZeros_1 : decode cJ33_numberOfLeadingZeros 1 = .ok (.bipush 32, 2) := dk_16 32 (dk_at dksJ33_numberOfLeadingZeros_0 1 rfl rfl)
theorem dJ33_numberOfLeadingZeros_3 : decode cJ33_numberOfLeadingZeros 3 = .ok (.lushr, 1) := dk_125 (dk_at dksJ33_numberOfLeadingZeros_0 3 rfl rfl)
theorem dJ33_numberOfLeadingZeros_4 : decode cJ33_numberOfLeadingZeros 4 = .ok (.l2i, 1) := dk_136 (dk_at dksJ33_numberOfLeadingZeros_0 4 rfl rfl)
theorem dJ33_numberOfLeadingZeros_5 : decode cJ33_numberOfLeadingZeros 5 = .ok (.istore_n 2, 1) := dk_61 (dk_at dksJ33_numberOfLeadingZeros_0 5 rfl rfl)
theorem dJ33_numberOfLeadingZeros_6 : decode cJ33_numberOfLeadingZeros 6 = .ok (.iload_n 2, 1) := dk_28 (dk_at dksJ33_numberOfLeadingZeros_0 6 rfl rfl)
theorem dJ33_numberOfLeadingZeros_7 : decode cJ33_numberOfLeadingZeros 7 = .ok (.ifCond .ne 14, 3) := dk_154 0 14 (dk_at dksJ33_numberOfLeadingZeros_0 7 rfl rfl)
theorem dJ33_numberOfLeadingZeros_10 : decode cJ33_numberOfLeadingZeros 10 = .ok (.bipush 32, 2) := dk_16 32 (dk_at dksJ33_numberOfLeadingZeros_0 10 rfl rfl)
theorem dJ33_numberOfLeadingZeros_12 : decode cJ33_numberOfLeadingZeros 12 = .ok (.lload_n 0, 1) := dk_30 (dk_at dksJ33_numberOfLeadingZeros_0 12 rfl rfl)
theorem dJ33_numberOfLeadingZeros_13 : decode cJ33_numberOfLeadingZeros 13 = .ok (.l2i, 1) := dk_136 (dk_at dksJ33_numberOfLeadingZeros_0 13 rfl rfl)
theorem dJ33_numberOfLeadingZeros_14 : decode cJ33_numberOfLeadingZeros 14 = .ok (.invokestatic 308, 3) := dk_184 1 52 (dk_at dksJ33_numberOfLeadingZeros_0 14 rfl rfl)
theorem dJ33_numberOfLeadingZeros_17 : decode cJ33_numberOfLeadingZeros 17 = .ok (.iadd, 1) := dk_96 (dk_at dksJ33_numberOfLeadingZeros_0 17 rfl rfl)
theorem dJ33_numberOfLeadingZeros_18 : decode cJ33_numberOfLeadingZeros 18 = .ok (.goto 7, 3) := dk_167 0 7 (dk_at dksJ33_numberOfLeadingZeros_0 18 rfl rfl)
theorem dJ33_numberOfLeadingZeros_21 : decode cJ33_numberOfLeadingZeros 21 = .ok (.iload_n 2, 1) := dk_28 (dk_at dksJ33_numberOfLeadingZeros_0 21 rfl rfl)
theorem dJ33_numberOfLeadingZeros_22 : decode cJ33_numberOfLeadingZeros 22 = .ok (.invokestatic 308, 3) := dk_184 1 52 (dk_at dksJ33_numberOfLeadingZeros_1 0 rfl rfl)
theorem dJ33_numberOfLeadingZeros_25 : decode cJ33_numberOfLeadingZeros 25 = .ok (.ireturn, 1) := dk_172 (dk_at dksJ33_numberOfLeadingZeros_1 3 rfl rfl)
abbrev cJ33_numberOfTrailingZeros : ByteArray := prog_23_method_49_code
def yJ33_numberOfTrailingZeros : MethodName := ⟨RJ33, "numberOfTrailingZeros", "(J)I"⟩
def dkwJ33_numberOfTrailingZeros_1 : List UInt8 := [184, 1, 55, 172]
abbrev dktJ33_numberOfTrailingZeros_1 : List UInt8 := dkwJ33_numberOfTrailingZeros_1 ++ []
def dkwJ33_numberOfTrailingZeros_0 : List UInt8 := [30, 136, 61, 28, 154, 0, 17, 16, 32, 30, 16, 32, 125, 136, 184, 1, 55, 96, 167, 0, 7, 28]
abbrev dktJ33_numberOfTrailingZeros_0 : List UInt8 := dkwJ33_numberOfTrailingZeros_0 ++ dktJ33_numberOfTrailingZeros_1
theorem dksJ33_numberOfTrailingZeros_0 : cJ33_numberOfTrailingZeros.data.toList.drop 0 = dktJ33_numberOfTrailingZeros_0 := by decide +kernel
theorem dksJ33_numberOfTrailingZeros_1 : cJ33_numberOfTrailingZeros.data.toList.drop 22 = dktJ33_numberOfTrailingZeros_1 := dk_seg dksJ33_numberOfTrailingZeros_0 22 rfl rfl
theorem dJ33_numberOfTrailingZeros_0 : decode cJ33_numberOfTrailingZeros 0 = .ok (.lload_n 0, 1) := dk_30 (dk_at dksJ33_numberOfTrailingZeros_0 0 rfl rfl)
theorem dJ33_numberOfTrailingZeros_1 : decode cJ33_numberOfTrailingZeros 1 = .ok (.l2i, 1) := dk_136 (dk_at dksJ33_numberOfTrailingZeros_0 1 rfl rfl)
theorem dJ33_numberOfTrailingZeros_2 : decode cJ33_numberOfTrailingZeros 2 = .ok (.istore_n 2, 1) := dk_61 (dk_at dksJ33_numberOfTrailingZeros_0 2 rfl rfl)
theorem dJ33_numberOfTrailingZeros_3 : decode cJ33_numberOfTrailingZeros 3 = .ok (.iload_n 2, 1) := dk_28 (dk_at dksJ33_numberOfTrailingZeros_0 3 rfl rfl)
theorem dJ33_numberOfTrailingZeros_4 : decode cJ33_numberOfTrailingZeros 4 = .ok (.ifCond .ne 17, 3) := dk_154 0 17 (dk_at dksJ33_numberOfTrailingZeros_0 4 rfl rfl)
theorem dJ33_numberOfTrailingZeros_7 : decode cJ33_numberOfTrailingZeros 7 = .ok (.bipush 32, 2) := dk_16 32 (dk_at dksJ33_numberOfTrailingZeros_0 7 rfl rfl)
theorem dJ33_numberOfTrailingZeros_9 : decode cJ33_numberOfTrailingZeros 9 = .ok (.lload_n 0, 1) := dk_30 (dk_at dksJ33_numberOfTrailingZeros_0 9 rfl rfl)
theorem dJ33_numberOfTrailingZeros_10 : decode cJ33_numberOfTrailingZeros 10 = .ok (.bipush 32, 2) := dk_16 32 (dk_at dksJ33_numberOfTrailingZeros_0 10 rfl rfl)
theorem dJ33_numberOfTrailingZeros_12 : decode cJ33_numberOfTrailingZeros 12 = .ok (.lushr, 1) := dk_125 (dk_at dksJ33_numberOfTrailingZeros_0 12 rfl rfl)
theorem dJ33_numberOfTrailingZeros_13 : decode cJ33_numberOfTrailingZeros 13 = .ok (.l2i, 1) := dk_136 (dk_at dksJ33_numberOfTrailingZeros_0 13 rfl rfl)
theorem dJ33_numberOfTrailingZeros_14 : decode cJ33_numberOfTrailingZeros 14 = .ok (.invokestatic 311, 3) := dk_184 1 55 (dk_at dksJ33_numberOfTrailingZeros_0 14 rfl rfl)
theorem dJ33_numberOfTrailingZeros_17 : decode cJ33_numberOfTrailingZeros 17 = .ok (.iadd, 1) := dk_96 (dk_at dksJ33_numberOfTrailingZeros_0 17 rfl rfl)
theorem dJ33_numberOfTrailingZeros_18 : decode cJ33_numberOfTrailingZeros 18 = .ok (.goto 7, 3) := dk_167 0 7 (dk_at dksJ33_numberOfTrailingZeros_0 18 rfl rfl)
theorem dJ33_numberOfTrailingZeros_21 : decode cJ33_numberOfTrailingZeros 21 = .ok (.iload_n 2, 1) := dk_28 (dk_at dksJ33_numberOfTrailingZeros_0 21 rfl rfl)
theorem dJ33_numberOfTrailingZeros_22 : decode cJ33_numberOfTrailingZeros 22 = .ok (.invokestatic 311, 3) := dk_184 1 55 (dk_at dksJ33_numberOfTrailingZeros_1 0 rfl rfl)
theorem dJ33_numberOfTrailingZeros_25 : decode cJ33_numberOfTrailingZeros 25 = .ok (.ireturn, 1) := dk_172 (dk_at dksJ33_numberOfTrailingZeros_1 3 rfl rfl)
abbrev cJ33_bitCount : ByteArray := prog_23_method_50_code
def yJ33_bitCount : MethodName := ⟨RJ33, "bitCount", "(J)I"⟩
def dkwJ33_bitCount_2 : List UInt8 := [30, 30, 16, 32, 125, 97, 63, 30, 136, 16, 127, 126, 172]
abbrev dktJ33_bitCount_2 : List UInt8 := dkwJ33_bitCount_2 ++ []
def dkwJ33_bitCount_1 : List UInt8 := [30, 30, 7, 125, 97, 20, 1, 62, 127, 63, 30, 30, 16, 8, 125, 97, 63, 30, 30, 16, 16, 125, 97, 63]
abbrev dktJ33_bitCount_1 : List UInt8 := dkwJ33_bitCount_1 ++ dktJ33_bitCount_2
def dkwJ33_bitCount_0 : List UInt8 := [30, 30, 4, 125, 20, 1, 58, 127, 101, 63, 30, 20, 1, 60, 127, 30, 5, 125, 20, 1, 60, 127, 97, 63]
abbrev dktJ33_bitCount_0 : List UInt8 := dkwJ33_bitCount_0 ++ dktJ33_bitCount_1
theorem dksJ33_bitCount_0 : cJ33_bitCount.data.toList.drop 0 = dktJ33_bitCount_0 := by decide +kernel
theorem dksJ33_bitCount_1 : cJ33_bitCount.data.toList.drop 24 = dktJ33_bitCount_1 := dk_seg dksJ33_bitCount_0 24 rfl rfl
theorem dksJ33_bitCount_2 : cJ33_bitCount.data.toList.drop 48 = dktJ33_bitCount_2 := dk_seg dksJ33_bitCount_1 24 rfl rfl
theorem dJ33_bitCount_0 : decode cJ33_bitCount 0 = .ok (.lload_n 0, 1) := dk_30 (dk_at dksJ33_bitCount_0 0 rfl rfl)
theorem dJ33_bitCount_1 : decode cJ33_bitCount 1 = .ok (.lload_n 0, 1) := dk_30 (dk_at dksJ33_bitCount_0 1 rfl rfl)
theorem dJ33_bitCount_2 : decode cJ33_bitCount 2 = .ok (.iconst 1, 1) := dk_4 (dk_at dksJ33_bitCount_0 2 rfl rfl)
theorem dJ33_bitCount_3 : decode cJ33_bitCount 3 = .ok (.lushr, 1) := dk_125 (dk_at dksJ33_bitCount_0 3 rfl rfl)
theorem dJ33_bitCount_4 : decode cJ33_bitCount 4 = .ok (.ldc2_w 314, 3) := dk_20 1 58 (dk_at dksJ33_bitCount_0 4 rfl rfl)
theorem dJ33_bitCount_7 : decode cJ33_bitCount 7 = .ok (.land, 1) := dk_127 (dk_at dksJ33_bitCount_0 7 rfl rfl)
theorem dJ33_bitCount_8 : decode cJ33_bitCount 8 = .ok (.lsub, 1) := dk_101 (dk_at dksJ33_bitCount_0 8 rfl rfl)
theorem dJ33_bitCount_9 : decode cJ33_bitCount 9 = .ok (.lstore_n 0, 1) := dk_63 (dk_at dksJ33_bitCount_0 9 rfl rfl)
theorem dJ33_bitCount_10 : decode cJ33_bitCount 10 = .ok (.lload_n 0, 1) := dk_30 (dk_at dksJ33_bitCount_0 10 rfl rfl)
theorem dJ33_bitCount_11 : decode cJ33_bitCount 11 = .ok (.ldc2_w 316, 3) := dk_20 1 60 (dk_at dksJ33_bitCount_0 11 rfl rfl)
theorem dJ33_bitCount_14 : decode cJ33_bitCount 14 = .ok (.land, 1) := dk_127 (dk_at dksJ33_bitCount_0 14 rfl rfl)
theorem dJ33_bitCount_15 : decode cJ33_bitCount 15 = .ok (.lload_n 0, 1) := dk_30 (dk_at dksJ33_bitCount_0 15 rfl rfl)
theorem dJ33_bitCount_16 : decode cJ33_bitCount 16 = .ok (.iconst 2, 1) := dk_5 (dk_at dksJ33_bitCount_0 16 rfl rfl)
theorem dJ33_bitCount_17 : decode cJ33_bitCount 17 = .ok (.lushr, 1) := dk_125 (dk_at dksJ33_bitCount_0 17 rfl rfl)
theorem dJ33_bitCount_18 : decode cJ33_bitCount 18 = .ok (.ldc2_w 316, 3) := dk_20 1 60 (dk_at dksJ33_bitCount_0 18 rfl rfl)
theorem dJ33_bitCount_21 : decode cJ33_bitCount 21 = .ok (.land, 1) := dk_127 (dk_at dksJ33_bitCount_0 21 rfl rfl)
theorem dJ33_bitCount_22 : decode cJ33_bitCount 22 = .ok (.ladd, 1) := dk_97 (dk_at dksJ33_bitCount_0 22 rfl rfl)
theorem dJ33_bitCount_23 : decode cJ33_bitCount 23 = .ok (.lstore_n 0, 1) := dk_63 (dk_at dksJ33_bitCount_0 23 rfl rfl)
theorem dJ33_bitCount_24 : decode cJ33_bitCount 24 = .ok (.lload_n 0, 1) := dk_30 (dk_at dksJ33_bitCount_1 0 rfl rfl)
theorem dJ33_bitCount_25 : decode cJ33_bitCount 25 = .ok (.lload_n 0, 1) := dk_30 (dk_at dksJ33_bitCount_1 1 rfl rfl)
theorem dJ33_bitCount_26 : decode cJ33_bitCount 26 = .ok (.iconst 4, 1) := dk_7 (dk_at dksJ33_bitCount_1 2 rfl rfl)
theorem dJ33_bitCount_27 : decode cJ33_bitCount 27 = .ok (.lushr, 1) := dk_125 (dk_at dksJ33_bitCount_1 3 rfl rfl)
theorem dJ33_bitCount_28 : decode cJ33_bitCount 28 = .ok (.ladd, 1) := dk_97 (dk_at dksJ33_bitCount_1 4 rfl rfl)
theorem dJ33_bitCount_29 : decode cJ33_bitCount 29 = .ok (.ldc2_w 318, 3) := dk_20 1 62 (dk_at dksJ33_bitCount_1 5 rfl rfl)
theorem dJ33_bitCount_32 : decode cJ33_bitCount 32 = .ok (.land, 1) := dk_127 (dk_at dksJ33_bitCount_1 8 rfl rfl)
theorem dJ33_bitCount_33 : decode cJ33_bitCount 33 = .ok (.lstore_n 0, 1) := dk_63 (dk_at dksJ33_bitCount_1 9 rfl rfl)
theorem dJ33_bitCount_34 : decode cJ33_bitCount 34 = .ok (.lload_n 0, 1) := dk_30 (dk_at dksJ33_bitCount_1 10 rfl rfl)
theorem dJ33_bitCount_35 : decode cJ33_bitCount 35 = .ok (.lload_n 0, 1) := dk_30 (dk_at dksJ33_bitCount_1 11 rfl rfl)
theorem dJ33_bitCount_36 : decode cJ33_bitCount 36 = .ok (.bipush 8, 2) := dk_16 8 (dk_at dksJ33_bitCount_1 12 rfl rfl)
theorem dJ33_bitCount_38 : decode cJ33_bitCount 38 = .ok (.lushr, 1) := dk_125 (dk_at dksJ33_bitCount_1 14 rfl rfl)
theorem dJ33_bitCount_39 : decode cJ33_bitCount 39 = .ok (.ladd, 1) := dk_97 (dk_at dksJ33_bitCount_1 15 rfl rfl)
theorem dJ33_bitCount_40 : decode cJ33_bitCount 40 = .ok (.lstore_n 0, 1) := dk_63 (dk_at dksJ33_bitCount_1 16 rfl rfl)
theorem dJ33_bitCount_41 : decode cJ33_bitCount 41 = .ok (.lload_n 0, 1) := dk_30 (dk_at dksJ33_bitCount_1 17 rfl rfl)
theorem dJ33_bitCount_42 : decode cJ33_bitCount 42 = .ok (.lload_n 0, 1) := dk_30 (dk_at dksJ33_bitCount_1 18 rfl rfl)
theorem dJ33_bitCount_43 : decode cJ33_bitCount 43 = .ok (.bipush 16, 2) := dk_16 16 (dk_at dksJ33_bitCount_1 19 rfl rfl)
theorem dJ33_bitCount_45 : decode cJ33_bitCount 45 = .ok (.lushr, 1) := dk_125 (dk_at dksJ33_bitCount_1 21 rfl rfl)
theorem dJ33_bitCount_46 : decode cJ33_bitCount 46 = .ok (.ladd, 1) := dk_97 (dk_at dksJ33_bitCount_1 22 rfl rfl)
theorem dJ33_bitCount_47 : decode cJ33_bitCount 47 = .ok (.lstore_n 0, 1) := dk_63 (dk_at dksJ33_bitCount_1 23 rfl rfl)
theorem dJ33_bitCount_48 : decode cJ33_bitCount 48 = .ok (.lload_n 0, 1) := dk_30 (dk_at dksJ33_bitCount_2 0 rfl rfl)
theorem dJ33_bitCount_49 : decode cJ33_bitCount 49 = .ok (.lload_n 0, 1) := dk_30 (dk_at dksJ33_bitCount_2 1 rfl rfl)
theorem dJ33_bitCount_50 : decode cJ33_bitCount 50 = .ok (.bipush 32, 2) := dk_16 32 (dk_at dksJ33_bitCount_2 2 rfl rfl)
theorem dJ33_bitCount_52 : decode cJ33_bitCount 52 = .ok (.lushr, 1) := dk_125 (dk_at dksJ33_bitCount_2 4 rfl rfl)
theorem dJ33_bitCount_53 : decode cJ33_bitCount 53 = .ok (.ladd, 1) := dk_97 (dk_at dksJ33_bitCount_2 5 rfl rfl)
theorem dJ33_bitCount_54 : decode cJ33_bitCount 54 = .ok (.lstore_n 0, 1) := dk_63 (dk_at dksJ33_bitCount_2 6 rfl rfl)
theorem dJ33_bitCount_55 : decode cJ33_bitCount 55 = .ok (.lload_n 0, 1) := dk_30 (dk_at dksJ33_bitCount_2 7 rfl rfl)
theorem dJ33_bitCount_56 : decode cJ33_bitCount 56 = .ok (.l2i, 1) := dk_136 (dk_at dksJ33_bitCount_2 8 rfl rfl)
theorem dJ33_bitCount_57 : decode cJ33_bitCount 57 = .ok (.bipush 127, 2) := dk_16 127 (dk_at dksJ33_bitCount_2 9 rfl rfl)
theorem dJ33_bitCount_59 : decode cJ33_bitCount 59 = .ok (.iand, 1) := dk_126 (dk_at dksJ33_bitCount_2 11 rfl rfl)
theorem dJ33_bitCount_60 : decode cJ33_bitCount 60 = .ok (.ireturn, 1) := dk_172 (dk_at dksJ33_bitCount_2 12 rfl rfl)
theorem q130 : (Jvm.Cond.initialized "java/lang/Long") ∈ lw_all := lw_g (lw_at lw_m1 43 rfl) rfl
theorem q1279 : (Jvm.Cond.static ({ cls := "java/lang/Long", name := "numberOfLeadingZeros", desc := "(J)I" } : Jvm.MethodName)) ∈ lw_all := lw_g (lw_at lw_m5 232 rfl) rfl
theorem q1280 : (Jvm.Cond.code ({ cls := "java/lang/Long", name := "numberOfLeadingZeros", desc := "(J)I" } : Jvm.MethodName) prog_23_method_48_code (3 : Nat) (Option.some Jvm.ClassFile.FieldType.int)) ∈ lw_all := lw_g (lw_at lw_m5 233 rfl) rfl
theorem q1281 : (Jvm.Cond.methodLink "java/lang/Long" (308 : Nat) ({ cls := "java/lang/Integer", name := "numberOfLeadingZeros", desc := "(I)I" } : Jvm.MethodName)) ∈ lw_all := lw_g (lw_at lw_m5 234 rfl) rfl
theorem q1285 : (Jvm.Cond.static ({ cls := "java/lang/Long", name := "numberOfTrailingZeros", desc := "(J)I" } : Jvm.MethodName)) ∈ lw_all := lw_g (lw_at lw_m5 238 rfl) rfl
theorem q1286 : (Jvm.Cond.code ({ cls := "java/lang/Long", name := "numberOfTrailingZeros", desc := "(J)I" } : Jvm.MethodName) prog_23_method_49_code (3 : Nat) (Option.some Jvm.ClassFile.FieldType.int)) ∈ lw_all := lw_g (lw_at lw_m5 239 rfl) rfl
theorem q1287 : (Jvm.Cond.methodLink "java/lang/Long" (311 : Nat) ({ cls := "java/lang/Integer", name := "numberOfTrailingZeros", desc := "(I)I" } : Jvm.MethodName)) ∈ lw_all := lw_g (lw_at lw_m6 0 rfl) rfl
theorem q2443 : (Jvm.Cond.static ({ cls := "java/lang/Long", name := "bitCount", desc := "(J)I" } : Jvm.MethodName)) ∈ lw_all := lw_g (lw_at lw_m10 196 rfl) rfl
theorem q2444 : (Jvm.Cond.code ({ cls := "java/lang/Long", name := "bitCount", desc := "(J)I" } : Jvm.MethodName) prog_23_method_50_code (2 : Nat) (Option.some Jvm.ClassFile.FieldType.int)) ∈ lw_all := lw_g (lw_at lw_m10 197 rfl) rfl
theorem q2445 : (Jvm.Cond.constantLong "java/lang/Long" (314 : Nat) (6148914691236517205 : Int64)) ∈ lw_all := lw_g (lw_at lw_m10 198 rfl) rfl
theorem q2446 : (Jvm.Cond.constantLong "java/lang/Long" (316 : Nat) (3689348814741910323 : Int64)) ∈ lw_all := lw_g (lw_at lw_m10 199 rfl) rfl
theorem q2447 : (Jvm.Cond.constantLong "java/lang/Long" (318 : Nat) (1085102592571150095 : Int64)) ∈ lw_all := lw_g (lw_at lw_m10 200 rfl) rfl
/-! java/util/LinkedHashMap$LinkedKeySet -/
set_option maxRecDepth 100000
def RJ35 : String := "java/util/LinkedHashMap$LinkedKeySet"
def TJ35 : u_T := fun k => match k with
  | 0 => ("java/util/LinkedHashMap$LinkedKeySet", "reversed", "Z", true)
  | _ => ("java/util/LinkedHashMap$LinkedKeySet", "this$0", "Ljava/util/LinkedHashMap;", true)
def tyJ35 : Nat → FieldType := fun k => match k with
  | 0 => .boolean
  | _ => .object "java/util/LinkedHashMap"
abbrev wsJ350 : List Cond := u_ws RJ35 TJ35 2
theorem nmJ35 : ∀ a, a < 2 → ∀ b, b < 2 → a ≠ b → (TJ35 a).2.1 ≠ (TJ35 b).2.1 := by decide +kernel
theorem tyJ35_ok : ∀ k, k < 2 → parseFieldDescriptor (TJ35 k).2.2.1 = some (tyJ35 k) := by decide +kernel
abbrev cJ35_size : ByteArray := prog_59_method_2_code
def yJ35_size : MethodName := ⟨RJ35, "size", "()I"⟩
def dkwJ35_size_0 : List UInt8 := [42, 180, 0, 1, 180, 0, 17, 172]
abbrev dktJ35_size_0 : List UInt8 := dkwJ35_size_0 ++ []
theorem dksJ35_size_0 : cJ35_size.data.toList.drop 0 = dktJ35_size_0 := by decide +kernel
theorem dJ35_size_0 : decode cJ35_size 0 = .ok (.aload_n 0, 1) := dk_42 (dk_at dksJ35_size_0 0 rfl rfl)
theorem dJ35_size_1 : decode cJ35_size 1 = .ok (.getfield 1, 3) := dk_180 0 1 (dk_at dksJ35_size_0 1 rfl rfl)
theorem dJ35_size_4 : decode cJ35_size 4 = .ok (.getfield 17, 3) := dk_180 0 17 (dk_at dksJ35_size_0 4 rfl rfl)
theorem dJ35_size_7 : decode cJ35_size 7 = .ok (.ireturn, 1) := dk_172 (dk_at dksJ35_size_0 7 rfl rfl)
abbrev cJ35_init : ByteArray := prog_59_method_1_code
def yJ35_init : MethodName := ⟨RJ35, "<init>", "(Ljava/util/LinkedHashMap;Z)V"⟩
def dkwJ35_init_0 : List UInt8 := [42, 43, 181, 0, 1, 42, 183, 0, 7, 42, 28, 181, 0, 13, 177]
abbrev dktJ35_init_0 : List UInt8 := dkwJ35_init_0 ++ []
theorem dksJ35_init_0 : cJ35_init.data.toList.drop 0 = dktJ35_init_0 := by decide +kernel
theorem dJ35_init_0 : decode cJ35_init 0 = .ok (.aload_n 0, 1) := dk_42 (dk_at dksJ35_init_0 0 rfl rfl)
theorem dJ35_init_1 : decode cJ35_init 1 = .ok (.aload_n 1, 1) := dk_43 (dk_at dksJ35_init_0 1 rfl rfl)
theorem dJ35_init_2 : decode cJ35_init 2 = .ok (.putfield 1, 3) := dk_181 0 1 (dk_at dksJ35_init_0 2 rfl rfl)
theorem dJ35_init_5 : decode cJ35_init 5 = .ok (.aload_n 0, 1) := dk_42 (dk_at dksJ35_init_0 5 rfl rfl)
theorem dJ35_init_6 : decode cJ35_init 6 = .ok (.invokespecial 7, 3) := dk_183 0 7 (dk_at dksJ35_init_0 6 rfl rfl)
theorem dJ35_init_9 : decode cJ35_init 9 = .ok (.aload_n 0, 1) := dk_42 (dk_at dksJ35_init_0 9 rfl rfl)
theorem dJ35_init_10 : decode cJ35_init 10 = .ok (.iload_n 2, 1) := dk_28 (dk_at dksJ35_init_0 10 rfl rfl)
theorem dJ35_init_11 : decode cJ35_init 11 = .ok (.putfield 13, 3) := dk_181 0 13 (dk_at dksJ35_init_0 11 rfl rfl)
theorem dJ35_init_14 : decode cJ35_init 14 = .ok (.return_, 1) := dk_177 (dk_at dksJ35_init_0 14 rfl rfl)
abbrev cJ35_iterator : ByteArray := prog_59_method_4_code
def yJ35_iterator : MethodName := ⟨RJ35, "iterator", "()Ljava/util/Iterator;"⟩
def dkwJ35_iterator_0 : List UInt8 := [187, 0, 26, 89, 42, 180, 0, 1, 42, 180, 0, 13, 183, 0, 28, 176]
abbrev dktJ35_iterator_0 : List UInt8 := dkwJ35_iterator_0 ++ []
theorem dksJ35_iterator_0 : cJ35_iterator.data.toList.drop 0 = dktJ35_iterator_0 := by decide +kernel
theorem dJ35_iterator_0 : decode cJ35_iterator 0 = .ok (.new 26, 3) := dk_187 0 26 (dk_at dksJ35_iterator_0 0 rfl rfl)
theorem dJ35_iterator_3 : decode cJ35_iterator 3 = .ok (.dup, 1) := dk_89 (dk_at dksJ35_iterator_0 3 rfl rfl)
theorem dJ35_iterator_4 : decode cJ35_iterator 4 = .ok (.aload_n 0, 1) := dk_42 (dk_at dksJ35_iterator_0 4 rfl rfl)
theorem dJ35_iterator_5 : decode cJ35_iterator 5 = .ok (.getfield 1, 3) := dk_180 0 1 (dk_at dksJ35_iterator_0 5 rfl rfl)
theorem dJ35_iterator_8 : decode cJ35_iterator 8 = .ok (.aload_n 0, 1) := dk_42 (dk_at dksJ35_iterator_0 8 rfl rfl)
theorem dJ35_iterator_9 : decode cJ35_iterator 9 = .ok (.getfield 13, 3) := dk_180 0 13 (dk_at dksJ35_iterator_0 9 rfl rfl)
theorem dJ35_iterator_12 : decode cJ35_iterator 12 = .ok (.invokespecial 28, 3) := dk_183 0 28 (dk_at dksJ35_iterator_0 12 rfl rfl)
theorem dJ35_iterator_15 : decode cJ35_iterator 15 = .ok (.areturn, 1) := dk_176 (dk_at dksJ35_iterator_0 15 rfl rfl)
theorem q133 : (Jvm.Cond.initialized "java/util/LinkedHashMap$LinkedKeySet") ∈ lw_all := lw_g (lw_at lw_m1 46 rfl) rfl
theorem q481 : (Jvm.Cond.selects "java/util/LinkedHashMap$LinkedKeySet" ({ cls := "java/lang/Object", name := "getClass", desc := "()Ljava/lang/Class;" } : Jvm.MethodName) ({ cls := "java/lang/Object", name := "getClass", desc := "()Ljava/lang/Class;" } : Jvm.MethodName)) ∈ lw_all := lw_g (lw_at lw_m2 154 rfl) rfl
theorem q823 : (Jvm.Cond.fieldLink "java/util/LinkedHashMap$LinkedKeySet" (17 : Nat) "java/util/LinkedHashMap" "size" "I") ∈ lw_all := lw_g (lw_at lw_m4 16 rfl) rfl
theorem q942 : (Jvm.Cond.selects "java/util/LinkedHashMap$LinkedKeySet" ({ cls := "java/util/AbstractCollection", name := "size", desc := "()I" } : Jvm.MethodName) ({ cls := "java/util/LinkedHashMap$LinkedKeySet", name := "size", desc := "()I" } : Jvm.MethodName)) ∈ lw_all := lw_g (lw_at lw_m4 135 rfl) rfl
theorem q943 : (Jvm.Cond.instanceMethod ({ cls := "java/util/LinkedHashMap$LinkedKeySet", name := "size", desc := "()I" } : Jvm.MethodName)) ∈ lw_all := lw_g (lw_at lw_m4 136 rfl) rfl
theorem q944 : (Jvm.Cond.code ({ cls := "java/util/LinkedHashMap$LinkedKeySet", name := "size", desc := "()I" } : Jvm.MethodName) prog_59_method_2_code (1 : Nat) (Option.some Jvm.ClassFile.FieldType.int)) ∈ lw_all := lw_g (lw_at lw_m4 137 rfl) rfl
theorem q1856 : (Jvm.Cond.instantiable "java/util/LinkedHashMap$LinkedKeySet" (2 : Nat)) ∈ lw_all := lw_g (lw_at lw_m8 89 rfl) rfl
theorem q1858 : (Jvm.Cond.instanceMethod ({ cls := "java/util/LinkedHashMap$LinkedKeySet", name := "<init>", desc := "(Ljava/util/LinkedHashMap;Z)V" } : Jvm.MethodName)) ∈ lw_all := lw_g (lw_at lw_m8 91 rfl) rfl
theorem q1859 : (Jvm.Cond.code ({ cls := "java/util/LinkedHashMap$LinkedKeySet", name := "<init>", desc := "(Ljava/util/LinkedHashMap;Z)V" } : Jvm.MethodName) prog_59_method_1_code (3 : Nat) (Option.none : Option Jvm.ClassFile.FieldType)) ∈ lw_all := lw_g (lw_at lw_m8 92 rfl) rfl
theorem q1860 : (Jvm.Cond.methodLink "java/util/LinkedHashMap$LinkedKeySet" (7 : Nat) ({ cls := "java/util/AbstractSet", name := "<init>", desc := "()V" } : Jvm.MethodName)) ∈ lw_all := lw_g (lw_at lw_m8 93 rfl) rfl
theorem q1861 : (Jvm.Cond.fieldLink "java/util/LinkedHashMap$LinkedKeySet" (13 : Nat) "java/util/LinkedHashMap$LinkedKeySet" "reversed" "Z") ∈ lw_all := lw_g (lw_at lw_m8 94 rfl) rfl
theorem q1862 : (Jvm.Cond.fieldLink "java/util/LinkedHashMap$LinkedKeySet" (1 : Nat) "java/util/LinkedHashMap$LinkedKeySet" "this$0" "Ljava/util/LinkedHashMap;") ∈ lw_all := lw_g (lw_at lw_m8 95 rfl) rfl
theorem q1863 : (Jvm.Cond.laysFinal "java/util/LinkedHashMap$LinkedKeySet" "java/util/LinkedHashMap$LinkedKeySet" "reversed" "Z") ∈ lw_all := lw_g (lw_at lw_m8 96 rfl) rfl
theorem q1864 : (Jvm.Cond.soleField "java/util/LinkedHashMap$LinkedKeySet" "reversed") ∈ lw_all := lw_g (lw_at lw_m8 97 rfl) rfl
theorem q1865 : (Jvm.Cond.laysFinal "java/util/LinkedHashMap$LinkedKeySet" "java/util/LinkedHashMap$LinkedKeySet" "this$0" "Ljava/util/LinkedHashMap;") ∈ lw_all := lw_g (lw_at lw_m8 98 rfl) rfl
theorem q1866 : (Jvm.Cond.soleField "java/util/LinkedHashMap$LinkedKeySet" "this$0") ∈ lw_all := lw_g (lw_at lw_m8 99 rfl) rfl
theorem q1867 : (Jvm.Cond.superclass "java/util/LinkedHashMap$LinkedKeySet" "java/util/AbstractSet") ∈ lw_all := lw_g (lw_at lw_m8 100 rfl) rfl
theorem q1904 : (Jvm.Cond.castable "java/util/LinkedHashMap$LinkedKeySet" "java/util/Set") ∈ lw_tbl := lw_at lw_m8 137 rfl
theorem q1905 : (Jvm.Cond.selects "java/util/LinkedHashMap$LinkedKeySet" ({ cls := "java/util/Set", name := "iterator", desc := "()Ljava/util/Iterator;" } : Jvm.MethodName) ({ cls := "java/util/LinkedHashMap$LinkedKeySet", name := "iterator", desc := "()Ljava/util/Iterator;" } : Jvm.MethodName)) ∈ lw_all := lw_g (lw_at lw_m8 138 rfl) rfl
theorem q1906 : (Jvm.Cond.unhidden "java/util/LinkedHashMap$LinkedKeySet" "iterator" "()Ljava/util/Iterator;") ∈ lw_tbl := lw_at lw_m8 139 rfl
theorem q1907 : (Jvm.Cond.instanceMethod ({ cls := "java/util/LinkedHashMap$LinkedKeySet", name := "iterator", desc := "()Ljava/util/Iterator;" } : Jvm.MethodName)) ∈ lw_all := lw_g (lw_at lw_m8 140 rfl) rfl
theorem q1908 : (Jvm.Cond.publicMethod ({ cls := "java/util/LinkedHashMap$LinkedKeySet", name := "iterator", desc := "()Ljava/util/Iterator;" } : Jvm.MethodName)) ∈ lw_tbl := lw_at lw_m8 141 rfl
theorem q1909 : (Jvm.Cond.code ({ cls := "java/util/LinkedHashMap$LinkedKeySet", name := "iterator", desc := "()Ljava/util/Iterator;" } : Jvm.MethodName) prog_59_method_4_code (1 : Nat) (Option.some (Jvm.ClassFile.FieldType.object "java/util/Iterator"))) ∈ lw_all := lw_g (lw_at lw_m8 142 rfl) rfl
theorem q1910 : (Jvm.Cond.classLink "java/util/LinkedHashMap$LinkedKeySet" (26 : Nat) "java/util/LinkedHashMap$LinkedKeyIterator") ∈ lw_all := lw_g (lw_at lw_m8 143 rfl) rfl
theorem q1912 : (Jvm.Cond.methodLink "java/util/LinkedHashMap$LinkedKeySet" (28 : Nat) ({ cls := "java/util/LinkedHashMap$LinkedKeyIterator", name := "<init>", desc := "(Ljava/util/LinkedHashMap;Z)V" } : Jvm.MethodName)) ∈ lw_all := lw_g (lw_at lw_m8 145 rfl) rfl
theorem q2882 : (Jvm.Cond.castable "java/util/LinkedHashMap$LinkedKeySet" "java/util/SequencedSet") ∈ lw_tbl := lw_at lw_m12 155 rfl
theorem q2908 : (Jvm.Cond.castable "java/util/LinkedHashMap$LinkedKeySet" "java/lang/Object") ∈ lw_tbl := lw_at lw_m12 181 rfl
theorem in_J35 : ∀ w ∈ wsJ350, w ∈ lw_all := lw_in wsJ350 [1863, 1865] (by decide +kernel) (by decide +kernel)
/-! java/util/HashMap$HashIterator -/
set_option maxRecDepth 100000
def RJ36 : String := "java/util/HashMap$HashIterator"
abbrev cJ36_hasNext : ByteArray := prog_48_method_2_code
def yJ36_hasNext : MethodName := ⟨RJ36, "hasNext", "()Z"⟩
def dkwJ36_hasNext_0 : List UInt8 := [42, 180, 0, 26, 198, 0, 7, 4, 167, 0, 4, 3, 172]
abbrev dktJ36_hasNext_0 : List UInt8 := dkwJ36_hasNext_0 ++ []
theorem dksJ36_hasNext_0 : cJ36_hasNext.data.toList.drop 0 = dktJ36_hasNext_0 := by decide +kernel
theorem dJ36_hasNext_0 : decode cJ36_hasNext 0 = .ok (.aload_n 0, 1) := dk_42 (dk_at dksJ36_hasNext_0 0 rfl rfl)
theorem dJ36_hasNext_1 : decode cJ36_hasNext 1 = .ok (.getfield 26, 3) := dk_180 0 26 (dk_at dksJ36_hasNext_0 1 rfl rfl)
theorem dJ36_hasNext_4 : decode cJ36_hasNext 4 = .ok (.ifnull 7, 3) := dk_198 0 7 (dk_at dksJ36_hasNext_0 4 rfl rfl)
theorem dJ36_hasNext_7 : decode cJ36_hasNext 7 = .ok (.iconst 1, 1) := dk_4 (dk_at dksJ36_hasNext_0 7 rfl rfl)
theorem dJ36_hasNext_8 : decode cJ36_hasNext 8 = .ok (.goto 4, 3) := dk_167 0 4 (dk_at dksJ36_hasNext_0 8 rfl rfl)
theorem dJ36_hasNext_11 : decode cJ36_hasNext 11 = .ok (.iconst 0, 1) := dk_3 (dk_at dksJ36_hasNext_0 11 rfl rfl)
theorem dJ36_hasNext_12 : decode cJ36_hasNext 12 = .ok (.ireturn, 1) := dk_172 (dk_at dksJ36_hasNext_0 12 rfl rfl)
abbrev cJ36_nextNode : ByteArray := prog_48_method_3_code
def yJ36_nextNode : MethodName := ⟨RJ36, "nextNode", "()Ljava/util/HashMap$Node;"⟩
def dkwJ36_nextNode_4 : List UInt8 := [181, 0, 26, 198, 255, 229, 44, 176]
abbrev dktJ36_nextNode_4 : List UInt8 := dkwJ36_nextNode_4 ++ []
def dkwJ36_nextNode_3 : List UInt8 := [180, 0, 33, 43, 190, 162, 0, 24, 42, 43, 42, 89, 180, 0, 33, 90, 4, 96, 181, 0, 33, 50, 90]
abbrev dktJ36_nextNode_3 : List UInt8 := dkwJ36_nextNode_3 ++ dktJ36_nextNode_4
def dkwJ36_nextNode_2 : List UInt8 := [180, 0, 45, 90, 181, 0, 26, 199, 0, 45, 42, 180, 0, 1, 180, 0, 22, 89, 76, 198, 0, 33, 42]
abbrev dktJ36_nextNode_2 : List UInt8 := dkwJ36_nextNode_2 ++ dktJ36_nextNode_3
def dkwJ36_nextNode_1 : List UInt8 := [183, 0, 41, 191, 44, 199, 0, 11, 187, 0, 42, 89, 183, 0, 44, 191, 42, 42, 44, 90, 181, 0, 30]
abbrev dktJ36_nextNode_1 : List UInt8 := dkwJ36_nextNode_1 ++ dktJ36_nextNode_2
def dkwJ36_nextNode_0 : List UInt8 := [42, 180, 0, 26, 77, 42, 180, 0, 1, 180, 0, 13, 42, 180, 0, 19, 159, 0, 11, 187, 0, 39, 89]
abbrev dktJ36_nextNode_0 : List UInt8 := dkwJ36_nextNode_0 ++ dktJ36_nextNode_1
theorem dksJ36_nextNode_0 : cJ36_nextNode.data.toList.drop 0 = dktJ36_nextNode_0 := by decide +kernel
theorem dksJ36_nextNode_1 : cJ36_nextNode.data.toList.drop 23 = dktJ36_nextNode_1 := dk_seg dksJ36_nextNode_0 23 rfl rfl
theorem dksJ36_nextNode_2 : cJ36_nextNode.data.toList.drop 46 = dktJ36_nextNode_2 := dk_seg dksJ36_nextNode_1 23 rfl rfl
theorem dksJ36_nextNode_3 : cJ36_nextNode.data.toList.drop 69 = dktJ36_nextNode_3 := dk_seg dksJ36_nextNode_2 23 rfl rfl
theorem dksJ36_nextNode_4 : cJ36_nextNode.data.toList.drop 92 = dktJ36_nextNode_4 := dk_seg dksJ36_nextNode_3 23 rfl rfl
theorem dJ36_nextNode_0 : decode cJ36_nextNode 0 = .ok (.aload_n 0, 1) := dk_42 (dk_at dksJ36_nextNode_0 0 rfl rfl)
theorem dJ36_nextNode_1 : decode cJ36_nextNode 1 = .ok (.getfield 26, 3) := dk_180 0 26 (dk_at dksJ36_nextNode_0 1 rfl rfl)
theorem dJ36_nextNode_4 : decode cJ36_nextNode 4 = .ok (.astore_n 2, 1) := dk_77 (dk_at dksJ36_nextNode_0 4 rfl rfl)
theorem dJ36_nextNode_5 : decode cJ36_nextNode 5 = .ok (.aload_n 0, 1) := dk_42 (dk_at dksJ36_nextNode_0 5 rfl rfl)
theorem dJ36_nextNode_6 : decode cJ36_nextNode 6 = .ok (.getfield 1, 3) := dk_180 0 1 (dk_at dksJ36_nextNode_0 6 rfl rfl)
theorem dJ36_nextNode_9 : decode cJ36_nextNode 9 = .ok (.getfield 13, 3) := dk_180 0 13 (dk_at dksJ36_nextNode_0 9 rfl rfl)
theorem dJ36_nextNode_12 : decode cJ36_nextNode 12 = .ok (.aload_n 0, 1) := dk_42 (dk_at dksJ36_nextNode_0 12 rfl rfl)
theorem dJ36_nextNode_13 : decode cJ36_nextNode 13 = .ok (.getfield 19, 3) := dk_180 0 19 (dk_at dksJ36_nextNode_0 13 rfl rfl)
theorem dJ36_nextNode_16 : decode cJ36_nextNode 16 = .ok (.if_icmp .eq 11, 3) := dk_159 0 11 (dk_at dksJ36_nextNode_0 16 rfl rfl)
theorem dJ36_nextNode_19 : decode cJ36_nextNode 19 = .ok (.new 39, 3) := dk_187 0 39 (dk_at dksJ36_nextNode_0 19 rfl rfl)
theorem dJ36_nextNode_22 : decode cJ36_nextNode 22 = .ok (.dup, 1) := dk_89 (dk_at dksJ36_nextNode_0 22 rfl rfl)
theorem dJ36_nextNode_23 : decode cJ36_nextNode 23 = .ok (.invokespecial 41, 3) := dk_183 0 41 (dk_at dksJ36_nextNode_1 0 rfl rfl)
theorem dJ36_nextNode_26 : decode cJ36_nextNode 26 = .ok (.athrow, 1) := dk_191 (dk_at dksJ36_nextNode_1 3 rfl rfl)
theorem dJ36_nextNode_27 : decode cJ36_nextNode 27 = .ok (.aload_n 2, 1) := dk_44 (dk_at dksJ36_nextNode_1 4 rfl rfl)
theorem dJ36_nextNode_28 : decode cJ36_nextNode 28 = .ok (.ifnonnull 11, 3) := dk_199 0 11 (dk_at dksJ36_nextNode_1 5 rfl rfl)
theorem dJ36_nextNode_31 : decode cJ36_nextNode 31 = .ok (.new 42, 3) := dk_187 0 42 (dk_at dksJ36_nextNode_1 8 rfl rfl)
theorem dJ36_nextNode_34 : decode cJ36_nextNode 34 = .ok (.dup, 1) := dk_89 (dk_at dksJ36_nextNode_1 11 rfl rfl)
theorem dJ36_nextNode_35 : decode cJ36_nextNode 35 = .ok (.invokespecial 44, 3) := dk_183 0 44 (dk_at dksJ36_nextNode_1 12 rfl rfl)
theorem dJ36_nextNode_38 : decode cJ36_nextNode 38 = .ok (.athrow, 1) := dk_191 (dk_at dksJ36_nextNode_1 15 rfl rfl)
theorem dJ36_nextNode_39 : decode cJ36_nextNode 39 = .ok (.aload_n 0, 1) := dk_42 (dk_at dksJ36_nextNode_1 16 rfl rfl)
theorem dJ36_nextNode_40 : decode cJ36_nextNode 40 = .ok (.aload_n 0, 1) := dk_42 (dk_at dksJ36_nextNode_1 17 rfl rfl)
theorem dJ36_nextNode_41 : decode cJ36_nextNode 41 = .ok (.aload_n 2, 1) := dk_44 (dk_at dksJ36_nextNode_1 18 rfl rfl)
theorem dJ36_nextNode_42 : decode cJ36_nextNode 42 = .ok (.dup_x1, 1) := dk_90 (dk_at dksJ36_nextNode_1 19 rfl rfl)
theorem dJ36_nextNode_43 : decode cJ36_nextNode 43 = .ok (.putfield 30, 3) := dk_181 0 30 (dk_at dksJ36_nextNode_1 20 rfl rfl)
theorem dJ36_nextNode_46 : decode cJ36_nextNode 46 = .ok (.getfield 45, 3) := dk_180 0 45 (dk_at dksJ36_nextNode_2 0 rfl rfl)
theorem dJ36_nextNode_49 : decode cJ36_nextNode 49 = .ok (.dup_x1, 1) := dk_90 (dk_at dksJ36_nextNode_2 3 rfl rfl)
theorem dJ36_nextNode_50 : decode cJ36_nextNode 50 = .ok (.putfield 26, 3) := dk_181 0 26 (dk_at dksJ36_nextNode_2 4 rfl rfl)
theorem dJ36_nextNode_53 : decode cJ36_nextNode 53 = .ok (.ifnonnull 45, 3) := dk_199 0 45 (dk_at dksJ36_nextNode_2 7 rfl rfl)
theorem dJ36_nextNode_56 : decode cJ36_nextNode 56 = .ok (.aload_n 0, 1) := dk_42 (dk_at dksJ36_nextNode_2 10 rfl rfl)
theorem dJ36_nextNode_57 : decode cJ36_nextNode 57 = .ok (.getfield 1, 3) := dk_180 0 1 (dk_at dksJ36_nextNode_2 11 rfl rfl)
theorem dJ36_nextNode_60 : decode cJ36_nextNode 60 = .ok (.getfield 22, 3) := dk_180 0 22 (dk_at dksJ36_nextNode_2 14 rfl rfl)
theorem dJ36_nextNode_63 : decode cJ36_nextNode 63 = .ok (.dup, 1) := dk_89 (dk_at dksJ36_nextNode_2 17 rfl rfl)
theorem dJ36_nextNode_64 : decode cJ36_nextNode 64 = .ok (.astore_n 1, 1) := dk_76 (dk_at dksJ36_nextNode_2 18 rfl rfl)
theorem dJ36_nextNode_65 : decode cJ36_nextNode 65 = .ok (.ifnull 33, 3) := dk_198 0 33 (dk_at dksJ36_nextNode_2 19 rfl rfl)
theorem dJ36_nextNode_68 : decode cJ36_nextNode 68 = .ok (.aload_n 0, 1) := dk_42 (dk_at dksJ36_nextNode_2 22 rfl rfl)
theorem dJ36_nextNode_69 : decode cJ36_nextNode 69 = .ok (.getfield 33, 3) := dk_180 0 33 (dk_at dksJ36_nextNode_3 0 rfl rfl)
theorem dJ36_nextNode_72 : decode cJ36_nextNode 72 = .ok (.aload_n 1, 1) := dk_43 (dk_at dksJ36_nextNode_3 3 rfl rfl)
theorem dJ36_nextNode_73 : decode cJ36_nextNode 73 = .ok (.arraylength, 1) := dk_190 (dk_at dksJ36_nextNode_3 4 rfl rfl)
theorem dJ36_nextNode_74 : decode cJ36_nextNode 74 = .ok (.if_icmp .ge 24, 3) := dk_162 0 24 (dk_at dksJ36_nextNode_3 5 rfl rfl)
theorem dJ36_nextNode_77 : decode cJ36_nextNode 77 = .ok (.aload_n 0, 1) := dk_42 (dk_at dksJ36_nextNode_3 8 rfl rfl)
theorem dJ36_nextNode_78 : decode cJ36_nextNode 78 = .ok (.aload_n 1, 1) := dk_43 (dk_at dksJ36_nextNode_3 9 rfl rfl)
theorem dJ36_nextNode_79 : decode cJ36_nextNode 79 = .ok (.aload_n 0, 1) := dk_42 (dk_at dksJ36_nextNode_3 10 rfl rfl)
theorem dJ36_nextNode_80 : decode cJ36_nextNode 80 = .ok (.dup, 1) := dk_89 (dk_at dksJ36_nextNode_3 11 rfl rfl)
theorem dJ36_nextNode_81 : decode cJ36_nextNode 81 = .ok (.getfield 33, 3) := dk_180 0 33 (dk_at dksJ36_nextNode_3 12 rfl rfl)
theorem dJ36_nextNode_84 : decode cJ36_nextNode 84 = .ok (.dup_x1, 1) := dk_90 (dk_at dksJ36_nextNode_3 15 rfl rfl)
theorem dJ36_nextNode_85 : decode cJ36_nextNode 85 = .ok (.iconst 1, 1) := dk_4 (dk_at dksJ36_nextNode_3 16 rfl rfl)
theorem dJ36_nextNode_86 : decode cJ36_nextNode 86 = .ok (.iadd, 1) := dk_96 (dk_at dksJ36_nextNode_3 17 rfl rfl)
theorem dJ36_nextNode_87 : decode cJ36_nextNode 87 = .ok (.putfield 33, 3) := dk_181 0 33 (dk_at dksJ36_nextNode_3 18 rfl rfl)
theorem dJ36_nextNode_90 : decode cJ36_nextNode 90 = .ok (.aaload, 1) := dk_50 (dk_at dksJ36_nextNode_3 21 rfl rfl)
theorem dJ36_nextNode_91 : decode cJ36_nextNode 91 = .ok (.dup_x1, 1) := dk_90 (dk_at dksJ36_nextNode_3 22 rfl rfl)
theorem dJ36_nextNode_92 : decode cJ36_nextNode 92 = .ok (.putfield 26, 3) := dk_181 0 26 (dk_at dksJ36_nextNode_4 0 rfl rfl)
theorem dJ36_nextNode_95 : decode cJ36_nextNode 95 = .ok (.ifnull (-27), 3) := dk_198 255 229 (dk_at dksJ36_nextNode_4 3 rfl rfl)
theorem dJ36_nextNode_98 : decode cJ36_nextNode 98 = .ok (.aload_n 2, 1) := dk_44 (dk_at dksJ36_nextNode_4 6 rfl rfl)
theorem dJ36_nextNode_99 : decode cJ36_nextNode 99 = .ok (.areturn, 1) := dk_176 (dk_at dksJ36_nextNode_4 7 rfl rfl)
abbrev cJ36_init : ByteArray := prog_48_method_1_code
def yJ36_init : MethodName := ⟨RJ36, "<init>", "(Ljava/util/HashMap;)V"⟩
def dkwJ36_init_3 : List UInt8 := [181, 0, 26, 198, 255, 229, 177]
abbrev dktJ36_init_3 : List UInt8 := dkwJ36_init_3 ++ []
def dkwJ36_init_2 : List UInt8 := [42, 180, 0, 33, 44, 190, 162, 0, 24, 42, 44, 42, 89, 180, 0, 33, 90, 4, 96, 181, 0, 33, 50, 90]
abbrev dktJ36_init_2 : List UInt8 := dkwJ36_init_2 ++ dktJ36_init_3
def dkwJ36_init_1 : List UInt8 := [1, 90, 181, 0, 26, 181, 0, 30, 42, 3, 181, 0, 33, 44, 198, 0, 40, 43, 180, 0, 36, 158, 0, 33]
abbrev dktJ36_init_1 : List UInt8 := dkwJ36_init_1 ++ dktJ36_init_2
def dkwJ36_init_0 : List UInt8 := [42, 43, 181, 0, 1, 42, 183, 0, 7, 42, 43, 180, 0, 13, 181, 0, 19, 43, 180, 0, 22, 77, 42, 42]
abbrev dktJ36_init_0 : List UInt8 := dkwJ36_init_0 ++ dktJ36_init_1
theorem dksJ36_init_0 : cJ36_init.data.toList.drop 0 = dktJ36_init_0 := by decide +kernel
theorem dksJ36_init_1 : cJ36_init.data.toList.drop 24 = dktJ36_init_1 := dk_seg dksJ36_init_0 24 rfl rfl
theorem dksJ36_init_2 : cJ36_init.data.toList.drop 48 = dktJ36_init_2 := dk_seg dksJ36_init_1 24 rfl rfl
theorem dksJ36_init_3 : cJ36_init.data.toList.drop 72 = dktJ36_init_3 := dk_seg dksJ36_init_2 24 rfl rfl
theorem dJ36_init_0 : decode cJ36_init 0 = .ok (.aload_n 0, 1) := dk_42 (dk_at dksJ36_init_0 0 rfl rfl)
theorem dJ36_init_1 : decode cJ36_init 1 = .ok (.aload_n 1, 1) := dk_43 (dk_at dksJ36_init_0 1 rfl rfl)
theorem dJ36_init_2 : decode cJ36_init 2 = .ok (.putfield 1, 3) := dk_181 0 1 (dk_at dksJ36_init_0 2 rfl rfl)
theorem dJ36_init_5 : decode cJ36_init 5 = .ok (.aload_n 0, 1) := dk_42 (dk_at dksJ36_init_0 5 rfl rfl)
theorem dJ36_init_6 : decode cJ36_init 6 = .ok (.invokespecial 7, 3) := dk_183 0 7 (dk_at dksJ36_init_0 6 rfl rfl)
theorem dJ36_init_9 : decode cJ36_init 9 = .ok (.aload_n 0, 1) := dk_42 (dk_at dksJ36_init_0 9 rfl rfl)
theorem dJ36_init_10 : decode cJ36_init 10 = .ok (.aload_n 1, 1) := dk_43 (dk_at dksJ36_init_0 10 rfl rfl)
theorem dJ36_init_11 : decode cJ36_init 11 = .ok (.getfield 13, 3) := dk_180 0 13 (dk_at dksJ36_init_0 11 rfl rfl)
theorem dJ36_init_14 : decode cJ36_init 14 = .ok (.putfield 19, 3) := dk_181 0 19 (dk_at dksJ36_init_0 14 rfl rfl)
theorem dJ36_init_17 : decode cJ36_init 17 = .ok (.aload_n 1, 1) := dk_43 (dk_at dksJ36_init_0 17 rfl rfl)
theorem dJ36_init_18 : decode cJ36_init 18 = .ok (.getfield 22, 3) := dk_180 0 22 (dk_at dksJ36_init_0 18 rfl rfl)
theorem dJ36_init_21 : decode cJ36_init 21 = .ok (.astore_n 2, 1) := dk_77 (dk_at dksJ36_init_0 21 rfl rfl)
theorem dJ36_init_22 : decode cJ36_init 22 = .ok (.aload_n 0, 1) := dk_42 (dk_at dksJ36_init_0 22 rfl rfl)
theorem dJ36_init_23 : decode cJ36_init 23 = .ok (.aload_n 0, 1) := dk_42 (dk_at dksJ36_init_0 23 rfl rfl)
theorem dJ36_init_24 : decode cJ36_init 24 = .ok (.aconst_null, 1) := dk_1 (dk_at dksJ36_init_1 0 rfl rfl)
theorem dJ36_init_25 : decode cJ36_init 25 = .ok (.dup_x1, 1) := dk_90 (dk_at dksJ36_init_1 1 rfl rfl)
theorem dJ36_init_26 : decode cJ36_init 26 = .ok (.putfield 26, 3) := dk_181 0 26 (dk_at dksJ36_init_1 2 rfl rfl)
theorem dJ36_init_29 : decode cJ36_init 29 = .ok (.putfield 30, 3) := dk_181 0 30 (dk_at dksJ36_init_1 5 rfl rfl)
theorem dJ36_init_32 : decode cJ36_init 32 = .ok (.aload_n 0, 1) := dk_42 (dk_at dksJ36_init_1 8 rfl rfl)
theorem dJ36_init_33 : decode cJ36_init 33 = .ok (.iconst 0, 1) := dk_3 (dk_at dksJ36_init_1 9 rfl rfl)
theorem dJ36_init_34 : decode cJ36_init 34 = .ok (.putfield 33, 3) := dk_181 0 33 (dk_at dksJ36_init_1 10 rfl rfl)
theorem dJ36_init_37 : decode cJ36_init 37 = .ok (.aload_n 2, 1) := dk_44 (dk_at dksJ36_init_1 13 rfl rfl)
theorem dJ36_init_38 : decode cJ36_init 38 = .ok (.ifnull 40, 3) := dk_198 0 40 (dk_at dksJ36_init_1 14 rfl rfl)
theorem dJ36_init_41 : decode cJ36_init 41 = .ok (.aload_n 1, 1) := dk_43 (dk_at dksJ36_init_1 17 rfl rfl)
theorem dJ36_init_42 : decode cJ36_init 42 = .ok (.getfield 36, 3) := dk_180 0 36 (dk_at dksJ36_init_1 18 rfl rfl)
theorem dJ36_init_45 : decode cJ36_init 45 = .ok (.ifCond .le 33, 3) := dk_158 0 33 (dk_at dksJ36_init_1 21 rfl rfl)
theorem dJ36_init_48 : decode cJ36_init 48 = .ok (.aload_n 0, 1) := dk_42 (dk_at dksJ36_init_2 0 rfl rfl)
theorem dJ36_init_49 : decode cJ36_init 49 = .ok (.getfield 33, 3) := dk_180 0 33 (dk_at dksJ36_init_2 1 rfl rfl)
theorem dJ36_init_52 : decode cJ36_init 52 = .ok (.aload_n 2, 1) := dk_44 (dk_at dksJ36_init_2 4 rfl rfl)
theorem dJ36_init_53 : decode cJ36_init 53 = .ok (.arraylength, 1) := dk_190 (dk_at dksJ36_init_2 5 rfl rfl)
theorem dJ36_init_54 : decode cJ36_init 54 = .ok (.if_icmp .ge 24, 3) := dk_162 0 24 (dk_at dksJ36_init_2 6 rfl rfl)
theorem dJ36_init_57 : decode cJ36_init 57 = .ok (.aload_n 0, 1) := dk_42 (dk_at dksJ36_init_2 9 rfl rfl)
theorem dJ36_init_58 : decode cJ36_init 58 = .ok (.aload_n 2, 1) := dk_44 (dk_at dksJ36_init_2 10 rfl rfl)
theorem dJ36_init_59 : decode cJ36_init 59 = .ok (.aload_n 0, 1) := dk_42 (dk_at dksJ36_init_2 11 rfl rfl)
theorem dJ36_init_60 : decode cJ36_init 60 = .ok (.dup, 1) := dk_89 (dk_at dksJ36_init_2 12 rfl rfl)
theorem dJ36_init_61 : decode cJ36_init 61 = .ok (.getfield 33, 3) := dk_180 0 33 (dk_at dksJ36_init_2 13 rfl rfl)
theorem dJ36_init_64 : decode cJ36_init 64 = .ok (.dup_x1, 1) := dk_90 (dk_at dksJ36_init_2 16 rfl rfl)
theorem dJ36_init_65 : decode cJ36_init 65 = .ok (.iconst 1, 1) := dk_4 (dk_at dksJ36_init_2 17 rfl rfl)
theorem dJ36_init_66 : decode cJ36_init 66 = .ok (.iadd, 1) := dk_96 (dk_at dksJ36_init_2 18 rfl rfl)
theorem dJ36_init_67 : decode cJ36_init 67 = .ok (.putfield 33, 3) := dk_181 0 33 (dk_at dksJ36_init_2 19 rfl rfl)
theorem dJ36_init_70 : decode cJ36_init 70 = .ok (.aaload, 1) := dk_50 (dk_at dksJ36_init_2 22 rfl rfl)
theorem dJ36_init_71 : decode cJ36_init 71 = .ok (.dup_x1, 1) := dk_90 (dk_at dksJ36_init_2 23 rfl rfl)
theorem dJ36_init_72 : decode cJ36_init 72 = .ok (.putfield 26, 3) := dk_181 0 26 (dk_at dksJ36_init_3 0 rfl rfl)
theorem dJ36_init_75 : decode cJ36_init 75 = .ok (.ifnull (-27), 3) := dk_198 255 229 (dk_at dksJ36_init_3 3 rfl rfl)
theorem dJ36_init_78 : decode cJ36_init 78 = .ok (.return_, 1) := dk_177 (dk_at dksJ36_init_3 6 rfl rfl)
theorem q134 : (Jvm.Cond.initialized "java/util/HashMap$HashIterator") ∈ lw_all := lw_g (lw_at lw_m1 47 rfl) rfl
theorem q351 : (Jvm.Cond.instanceMethod ({ cls := "java/util/HashMap$HashIterator", name := "hasNext", desc := "()Z" } : Jvm.MethodName)) ∈ lw_all := lw_g (lw_at lw_m2 24 rfl) rfl
theorem q352 : (Jvm.Cond.publicMethod ({ cls := "java/util/HashMap$HashIterator", name := "hasNext", desc := "()Z" } : Jvm.MethodName)) ∈ lw_tbl := lw_at lw_m2 25 rfl
theorem q353 : (Jvm.Cond.code ({ cls := "java/util/HashMap$HashIterator", name := "hasNext", desc := "()Z" } : Jvm.MethodName) prog_48_method_2_code (1 : Nat) (Option.some Jvm.ClassFile.FieldType.boolean)) ∈ lw_all := lw_g (lw_at lw_m2 26 rfl) rfl
theorem q380 : (Jvm.Cond.declares ({ cls := "java/util/HashMap$HashIterator", name := "nextNode", desc := "()Ljava/util/HashMap$Node;" } : Jvm.MethodName)) ∈ lw_tbl := lw_at lw_m2 53 rfl
theorem q382 : (Jvm.Cond.instanceMethod ({ cls := "java/util/HashMap$HashIterator", name := "nextNode", desc := "()Ljava/util/HashMap$Node;" } : Jvm.MethodName)) ∈ lw_all := lw_g (lw_at lw_m2 55 rfl) rfl
theorem q383 : (Jvm.Cond.code ({ cls := "java/util/HashMap$HashIterator", name := "nextNode", desc := "()Ljava/util/HashMap$Node;" } : Jvm.MethodName) prog_48_method_3_code (3 : Nat) (Option.some (Jvm.ClassFile.FieldType.object "java/util/HashMap$Node"))) ∈ lw_all := lw_g (lw_at lw_m2 56 rfl) rfl
theorem q819 : (Jvm.Cond.fieldLink "java/util/HashMap$HashIterator" (22 : Nat) "java/util/HashMap" "table" "[Ljava/util/HashMap$Node;") ∈ lw_all := lw_g (lw_at lw_m4 12 rfl) rfl
theorem q821 : (Jvm.Cond.fieldLink "java/util/HashMap$HashIterator" (36 : Nat) "java/util/HashMap" "size" "I") ∈ lw_all := lw_g (lw_at lw_m4 14 rfl) rfl
theorem q826 : (Jvm.Cond.fieldLink "java/util/HashMap$HashIterator" (13 : Nat) "java/util/HashMap" "modCount" "I") ∈ lw_all := lw_g (lw_at lw_m4 19 rfl) rfl
theorem q1133 : (Jvm.Cond.fieldLink "java/util/HashMap$HashIterator" (45 : Nat) "java/util/HashMap$Node" "next" "Ljava/util/HashMap$Node;") ∈ lw_all := lw_g (lw_at lw_m5 86 rfl) rfl
theorem q1885 : (Jvm.Cond.instanceMethod ({ cls := "java/util/HashMap$HashIterator", name := "<init>", desc := "(Ljava/util/HashMap;)V" } : Jvm.MethodName)) ∈ lw_all := lw_g (lw_at lw_m8 118 rfl) rfl
theorem q1886 : (Jvm.Cond.code ({ cls := "java/util/HashMap$HashIterator", name := "<init>", desc := "(Ljava/util/HashMap;)V" } : Jvm.MethodName) prog_48_method_1_code (3 : Nat) (Option.none : Option Jvm.ClassFile.FieldType)) ∈ lw_all := lw_g (lw_at lw_m8 119 rfl) rfl
theorem q1887 : (Jvm.Cond.methodLink "java/util/HashMap$HashIterator" (7 : Nat) ({ cls := "java/lang/Object", name := "<init>", desc := "()V" } : Jvm.MethodName)) ∈ lw_all := lw_g (lw_at lw_m8 120 rfl) rfl
theorem q1888 : (Jvm.Cond.fieldLink "java/util/HashMap$HashIterator" (26 : Nat) "java/util/HashMap$HashIterator" "next" "Ljava/util/HashMap$Node;") ∈ lw_all := lw_g (lw_at lw_m8 121 rfl) rfl
theorem q1889 : (Jvm.Cond.fieldLink "java/util/HashMap$HashIterator" (30 : Nat) "java/util/HashMap$HashIterator" "current" "Ljava/util/HashMap$Node;") ∈ lw_all := lw_g (lw_at lw_m8 122 rfl) rfl
theorem q1890 : (Jvm.Cond.fieldLink "java/util/HashMap$HashIterator" (19 : Nat) "java/util/HashMap$HashIterator" "expectedModCount" "I") ∈ lw_all := lw_g (lw_at lw_m8 123 rfl) rfl
theorem q1891 : (Jvm.Cond.fieldLink "java/util/HashMap$HashIterator" (33 : Nat) "java/util/HashMap$HashIterator" "index" "I") ∈ lw_all := lw_g (lw_at lw_m8 124 rfl) rfl
theorem q1892 : (Jvm.Cond.fieldLink "java/util/HashMap$HashIterator" (1 : Nat) "java/util/HashMap$HashIterator" "this$0" "Ljava/util/HashMap;") ∈ lw_all := lw_g (lw_at lw_m8 125 rfl) rfl
theorem q1894 : (Jvm.Cond.soleField "java/util/HashMap$HashIterator" "next") ∈ lw_all := lw_g (lw_at lw_m8 127 rfl) rfl
theorem q1896 : (Jvm.Cond.soleField "java/util/HashMap$HashIterator" "current") ∈ lw_all := lw_g (lw_at lw_m8 129 rfl) rfl
theorem q1898 : (Jvm.Cond.soleField "java/util/HashMap$HashIterator" "expectedModCount") ∈ lw_all := lw_g (lw_at lw_m8 131 rfl) rfl
theorem q1900 : (Jvm.Cond.soleField "java/util/HashMap$HashIterator" "index") ∈ lw_all := lw_g (lw_at lw_m8 133 rfl) rfl
theorem q1902 : (Jvm.Cond.soleField "java/util/HashMap$HashIterator" "this$0") ∈ lw_all := lw_g (lw_at lw_m8 135 rfl) rfl
/-! java/util/HashMap$KeyIterator -/
set_option maxRecDepth 100000
def RJ37 : String := "java/util/HashMap$KeyIterator"
def TJ37 : u_T := fun k => match k with
  | 0 => ("java/util/HashMap$HashIterator", "next", "Ljava/util/HashMap$Node;", false)
  | 1 => ("java/util/HashMap$HashIterator", "current", "Ljava/util/HashMap$Node;", false)
  | 2 => ("java/util/HashMap$HashIterator", "expectedModCount", "I", false)
  | 3 => ("java/util/HashMap$HashIterator", "index", "I", false)
  | _ => ("java/util/HashMap$HashIterator", "this$0", "Ljava/util/HashMap;", true)
def tyJ37 : Nat → FieldType := fun k => match k with
  | 0 => .object "java/util/HashMap$Node"
  | 1 => .object "java/util/HashMap$Node"
  | 2 => .int
  | 3 => .int
  | _ => .object "java/util/HashMap"
abbrev wsJ370 : List Cond := u_ws RJ37 TJ37 5
theorem nmJ37 : ∀ a, a < 5 → ∀ b, b < 5 → a ≠ b → (TJ37 a).2.1 ≠ (TJ37 b).2.1 := by decide +kernel
theorem tyJ37_ok : ∀ k, k < 5 → parseFieldDescriptor (TJ37 k).2.2.1 = some (tyJ37 k) := by decide +kernel
abbrev cJ37_next : ByteArray := prog_49_method_2_code
def yJ37_next : MethodName := ⟨RJ37, "next", "()Ljava/lang/Object;"⟩
def dkwJ37_next_0 : List UInt8 := [42, 182, 0, 7, 180, 0, 13, 176]
abbrev dktJ37_next_0 : List UInt8 := dkwJ37_next_0 ++ []
theorem dksJ37_next_0 : cJ37_next.data.toList.drop 0 = dktJ37_next_0 := by decide +kernel
theorem dJ37_next_0 : decode cJ37_next 0 = .ok (.aload_n 0, 1) := dk_42 (dk_at dksJ37_next_0 0 rfl rfl)
theorem dJ37_next_1 : decode cJ37_next 1 = .ok (.invokevirtual 7, 3) := dk_182 0 7 (dk_at dksJ37_next_0 1 rfl rfl)
theorem dJ37_next_4 : decode cJ37_next 4 = .ok (.getfield 13, 3) := dk_180 0 13 (dk_at dksJ37_next_0 4 rfl rfl)
theorem dJ37_next_7 : decode cJ37_next 7 = .ok (.areturn, 1) := dk_176 (dk_at dksJ37_next_0 7 rfl rfl)
abbrev cJ37_init : ByteArray := prog_49_method_1_code
def yJ37_init : MethodName := ⟨RJ37, "<init>", "(Ljava/util/HashMap;)V"⟩
def dkwJ37_init_0 : List UInt8 := [42, 43, 183, 0, 1, 177]
abbrev dktJ37_init_0 : List UInt8 := dkwJ37_init_0 ++ []
theorem dksJ37_init_0 : cJ37_init.data.toList.drop 0 = dktJ37_init_0 := by decide +kernel
theorem dJ37_init_0 : decode cJ37_init 0 = .ok (.aload_n 0, 1) := dk_42 (dk_at dksJ37_init_0 0 rfl rfl)
theorem dJ37_init_1 : decode cJ37_init 1 = .ok (.aload_n 1, 1) := dk_43 (dk_at dksJ37_init_0 1 rfl rfl)
theorem dJ37_init_2 : decode cJ37_init 2 = .ok (.invokespecial 1, 3) := dk_183 0 1 (dk_at dksJ37_init_0 2 rfl rfl)
theorem dJ37_init_5 : decode cJ37_init 5 = .ok (.return_, 1) := dk_177 (dk_at dksJ37_init_0 5 rfl rfl)
theorem q135 : (Jvm.Cond.initialized "java/util/HashMap$KeyIterator") ∈ lw_all := lw_g (lw_at lw_m1 48 rfl) rfl
theorem q348 : (Jvm.Cond.castable "java/util/HashMap$KeyIterator" "java/util/Iterator") ∈ lw_tbl := lw_at lw_m2 21 rfl
theorem q349 : (Jvm.Cond.selects "java/util/HashMap$KeyIterator" ({ cls := "java/util/Iterator", name := "hasNext", desc := "()Z" } : Jvm.MethodName) ({ cls := "java/util/HashMap$HashIterator", name := "hasNext", desc := "()Z" } : Jvm.MethodName)) ∈ lw_all := lw_g (lw_at lw_m2 22 rfl) rfl
theorem q350 : (Jvm.Cond.unhidden "java/util/HashMap$KeyIterator" "hasNext" "()Z") ∈ lw_tbl := lw_at lw_m2 23 rfl
theorem q373 : (Jvm.Cond.selects "java/util/HashMap$KeyIterator" ({ cls := "java/util/Iterator", name := "next", desc := "()Ljava/lang/Object;" } : Jvm.MethodName) ({ cls := "java/util/HashMap$KeyIterator", name := "next", desc := "()Ljava/lang/Object;" } : Jvm.MethodName)) ∈ lw_all := lw_g (lw_at lw_m2 46 rfl) rfl
theorem q374 : (Jvm.Cond.unhidden "java/util/HashMap$KeyIterator" "next" "()Ljava/lang/Object;") ∈ lw_tbl := lw_at lw_m2 47 rfl
theorem q375 : (Jvm.Cond.instanceMethod ({ cls := "java/util/HashMap$KeyIterator", name := "next", desc := "()Ljava/lang/Object;" } : Jvm.MethodName)) ∈ lw_all := lw_g (lw_at lw_m2 48 rfl) rfl
theorem q376 : (Jvm.Cond.publicMethod ({ cls := "java/util/HashMap$KeyIterator", name := "next", desc := "()Ljava/lang/Object;" } : Jvm.MethodName)) ∈ lw_tbl := lw_at lw_m2 49 rfl
theorem q377 : (Jvm.Cond.code ({ cls := "java/util/HashMap$KeyIterator", name := "next", desc := "()Ljava/lang/Object;" } : Jvm.MethodName) prog_49_method_2_code (1 : Nat) (Option.some (Jvm.ClassFile.FieldType.object "java/lang/Object"))) ∈ lw_all := lw_g (lw_at lw_m2 50 rfl) rfl
theorem q378 : (Jvm.Cond.methodLink "java/util/HashMap$KeyIterator" (7 : Nat) ({ cls := "java/util/HashMap$KeyIterator", name := "nextNode", desc := "()Ljava/util/HashMap$Node;" } : Jvm.MethodName)) ∈ lw_all := lw_g (lw_at lw_m2 51 rfl) rfl
theorem q379 : (Jvm.Cond.sameMethod "java/util/HashMap$KeyIterator" "java/util/HashMap$HashIterator" "nextNode" "()Ljava/util/HashMap$Node;") ∈ lw_all := lw_g (lw_at lw_m2 52 rfl) rfl
theorem q381 : (Jvm.Cond.selects "java/util/HashMap$KeyIterator" ({ cls := "java/util/HashMap$KeyIterator", name := "nextNode", desc := "()Ljava/util/HashMap$Node;" } : Jvm.MethodName) ({ cls := "java/util/HashMap$HashIterator", name := "nextNode", desc := "()Ljava/util/HashMap$Node;" } : Jvm.MethodName)) ∈ lw_all := lw_g (lw_at lw_m2 54 rfl) rfl
theorem q474 : (Jvm.Cond.selects "java/util/HashMap$KeyIterator" ({ cls := "java/lang/Object", name := "getClass", desc := "()Ljava/lang/Class;" } : Jvm.MethodName) ({ cls := "java/lang/Object", name := "getClass", desc := "()Ljava/lang/Class;" } : Jvm.MethodName)) ∈ lw_all := lw_g (lw_at lw_m2 147 rfl) rfl
theorem q1121 : (Jvm.Cond.fieldLink "java/util/HashMap$KeyIterator" (13 : Nat) "java/util/HashMap$Node" "key" "Ljava/lang/Object;") ∈ lw_all := lw_g (lw_at lw_m5 74 rfl) rfl
theorem q1880 : (Jvm.Cond.instantiable "java/util/HashMap$KeyIterator" (5 : Nat)) ∈ lw_all := lw_g (lw_at lw_m8 113 rfl) rfl
theorem q1882 : (Jvm.Cond.instanceMethod ({ cls := "java/util/HashMap$KeyIterator", name := "<init>", desc := "(Ljava/util/HashMap;)V" } : Jvm.MethodName)) ∈ lw_all := lw_g (lw_at lw_m8 115 rfl) rfl
theorem q1883 : (Jvm.Cond.code ({ cls := "java/util/HashMap$KeyIterator", name := "<init>", desc := "(Ljava/util/HashMap;)V" } : Jvm.MethodName) prog_49_method_1_code (2 : Nat) (Option.none : Option Jvm.ClassFile.FieldType)) ∈ lw_all := lw_g (lw_at lw_m8 116 rfl) rfl
theorem q1884 : (Jvm.Cond.methodLink "java/util/HashMap$KeyIterator" (1 : Nat) ({ cls := "java/util/HashMap$HashIterator", name := "<init>", desc := "(Ljava/util/HashMap;)V" } : Jvm.MethodName)) ∈ lw_all := lw_g (lw_at lw_m8 117 rfl) rfl
theorem q1893 : (Jvm.Cond.lays "java/util/HashMap$KeyIterator" "java/util/HashMap$HashIterator" "next" "Ljava/util/HashMap$Node;") ∈ lw_all := lw_g (lw_at lw_m8 126 rfl) rfl
theorem q1895 : (Jvm.Cond.lays "java/util/HashMap$KeyIterator" "java/util/HashMap$HashIterator" "current" "Ljava/util/HashMap$Node;") ∈ lw_all := lw_g (lw_at lw_m8 128 rfl) rfl
theorem q1897 : (Jvm.Cond.lays "java/util/HashMap$KeyIterator" "java/util/HashMap$HashIterator" "expectedModCount" "I") ∈ lw_all := lw_g (lw_at lw_m8 130 rfl) rfl
theorem q1899 : (Jvm.Cond.lays "java/util/HashMap$KeyIterator" "java/util/HashMap$HashIterator" "index" "I") ∈ lw_all := lw_g (lw_at lw_m8 132 rfl) rfl
theorem q1901 : (Jvm.Cond.laysFinal "java/util/HashMap$KeyIterator" "java/util/HashMap$HashIterator" "this$0" "Ljava/util/HashMap;") ∈ lw_all := lw_g (lw_at lw_m8 134 rfl) rfl
theorem q1903 : (Jvm.Cond.superclass "java/util/HashMap$KeyIterator" "java/util/HashMap$HashIterator") ∈ lw_all := lw_g (lw_at lw_m8 136 rfl) rfl
theorem q2911 : (Jvm.Cond.castable "java/util/HashMap$KeyIterator" "java/lang/Object") ∈ lw_tbl := lw_at lw_m12 184 rfl
theorem in_J37 : ∀ w ∈ wsJ370, w ∈ lw_all := lw_in wsJ370 [1893, 1895, 1897, 1899, 1901] (by decide +kernel) (by decide +kernel)
/-! java/util/LinkedHashMap$LinkedHashIterator -/
set_option maxRecDepth 100000
def RJ38 : String := "java/util/LinkedHashMap$LinkedHashIterator"
abbrev cJ38_hasNext : ByteArray := prog_57_method_2_code
def yJ38_hasNext : MethodName := ⟨RJ38, "hasNext", "()Z"⟩
def dkwJ38_hasNext_0 : List UInt8 := [42, 180, 0, 26, 198, 0, 7, 4, 167, 0, 4, 3, 172]
abbrev dktJ38_hasNext_0 : List UInt8 := dkwJ38_hasNext_0 ++ []
theorem dksJ38_hasNext_0 : cJ38_hasNext.data.toList.drop 0 = dktJ38_hasNext_0 := by decide +kernel
theorem dJ38_hasNext_0 : decode cJ38_hasNext 0 = .ok (.aload_n 0, 1) := dk_42 (dk_at dksJ38_hasNext_0 0 rfl rfl)
theorem dJ38_hasNext_1 : decode cJ38_hasNext 1 = .ok (.getfield 26, 3) := dk_180 0 26 (dk_at dksJ38_hasNext_0 1 rfl rfl)
theorem dJ38_hasNext_4 : decode cJ38_hasNext 4 = .ok (.ifnull 7, 3) := dk_198 0 7 (dk_at dksJ38_hasNext_0 4 rfl rfl)
theorem dJ38_hasNext_7 : decode cJ38_hasNext 7 = .ok (.iconst 1, 1) := dk_4 (dk_at dksJ38_hasNext_0 7 rfl rfl)
theorem dJ38_hasNext_8 : decode cJ38_hasNext 8 = .ok (.goto 4, 3) := dk_167 0 4 (dk_at dksJ38_hasNext_0 8 rfl rfl)
theorem dJ38_hasNext_11 : decode cJ38_hasNext 11 = .ok (.iconst 0, 1) := dk_3 (dk_at dksJ38_hasNext_0 11 rfl rfl)
theorem dJ38_hasNext_12 : decode cJ38_hasNext 12 = .ok (.ireturn, 1) := dk_172 (dk_at dksJ38_hasNext_0 12 rfl rfl)
abbrev cJ38_nextNode : ByteArray := prog_57_method_3_code
def yJ38_nextNode : MethodName := ⟨RJ38, "nextNode", "()Ljava/util/LinkedHashMap$Entry;"⟩
def dkwJ38_nextNode_2 : List UInt8 := [180, 0, 13, 153, 0, 10, 43, 180, 0, 45, 167, 0, 7, 43, 180, 0, 50, 181, 0, 26, 43, 176]
abbrev dktJ38_nextNode_2 : List UInt8 := dkwJ38_nextNode_2 ++ []
def dkwJ38_nextNode_1 : List UInt8 := [183, 0, 41, 191, 43, 199, 0, 11, 187, 0, 42, 89, 183, 0, 44, 191, 42, 43, 181, 0, 36, 42, 42]
abbrev dktJ38_nextNode_1 : List UInt8 := dkwJ38_nextNode_1 ++ dktJ38_nextNode_2
def dkwJ38_nextNode_0 : List UInt8 := [42, 180, 0, 26, 76, 42, 180, 0, 1, 180, 0, 29, 42, 180, 0, 33, 159, 0, 11, 187, 0, 39, 89]
abbrev dktJ38_nextNode_0 : List UInt8 := dkwJ38_nextNode_0 ++ dktJ38_nextNode_1
theorem dksJ38_nextNode_0 : cJ38_nextNode.data.toList.drop 0 = dktJ38_nextNode_0 := by decide +kernel
theorem dksJ38_nextNode_1 : cJ38_nextNode.data.toList.drop 23 = dktJ38_nextNode_1 := dk_seg dksJ38_nextNode_0 23 rfl rfl
theorem dksJ38_nextNode_2 : cJ38_nextNode.data.toList.drop 46 = dktJ38_nextNode_2 := dk_seg dksJ38_nextNode_1 23 rfl rfl
theorem dJ38_nextNode_0 : decode cJ38_nextNode 0 = .ok (.aload_n 0, 1) := dk_42 (dk_at dksJ38_nextNode_0 0 rfl rfl)
theorem dJ38_nextNode_1 : decode cJ38_nextNode 1 = .ok (.getfield 26, 3) := dk_180 0 26 (dk_at dksJ38_nextNode_0 1 rfl rfl)
theorem dJ38_nextNode_4 : decode cJ38_nextNode 4 = .ok (.astore_n 1, 1) := dk_76 (dk_at dksJ38_nextNode_0 4 rfl rfl)
theorem dJ38_nextNode_5 : decode cJ38_nextNode 5 = .ok (.aload_n 0, 1) := dk_42 (dk_at dksJ38_nextNode_0 5 rfl rfl)
theorem dJ38_nextNode_6 : decode cJ38_nextNode 6 = .ok (.getfield 1, 3) := dk_180 0 1 (dk_at dksJ38_nextNode_0 6 rfl rfl)
theorem dJ38_nextNode_9 : decode cJ38_nextNode 9 = .ok (.getfield 29, 3) := dk_180 0 29 (dk_at dksJ38_nextNode_0 9 rfl rfl)
theorem dJ38_nextNode_12 : decode cJ38_nextNode 12 = .ok (.aload_n 0, 1) := dk_42 (dk_at dksJ38_nextNode_0 12 rfl rfl)
theorem dJ38_nextNode_13 : decode cJ38_nextNode 13 = .ok (.getfield 33, 3) := dk_180 0 33 (dk_at dksJ38_nextNode_0 13 rfl rfl)
theorem dJ38_nextNode_16 : decode cJ38_nextNode 16 = .ok (.if_icmp .eq 11, 3) := dk_159 0 11 (dk_at dksJ38_nextNode_0 16 rfl rfl)
theorem dJ38_nextNode_19 : decode cJ38_nextNode 19 = .ok (.new 39, 3) := dk_187 0 39 (dk_at dksJ38_nextNode_0 19 rfl rfl)
theorem dJ38_nextNode_22 : decode cJ38_nextNode 22 = .ok (.dup, 1) := dk_89 (dk_at dksJ38_nextNode_0 22 rfl rfl)
theorem dJ38_nextNode_23 : decode cJ38_nextNode 23 = .ok (.invokespecial 41, 3) := dk_183 0 41 (dk_at dksJ38_nextNode_1 0 rfl rfl)
theorem dJ38_nextNode_26 : decode cJ38_nextNode 26 = .ok (.athrow, 1) := dk_191 (dk_at dksJ38_nextNode_1 3 rfl rfl)
theorem dJ38_nextNode_27 : decode cJ38_nextNode 27 = .ok (.aload_n 1, 1) := dk_43 (dk_at dksJ38_nextNode_1 4 rfl rfl)
theorem dJ38_nextNode_28 : decode cJ38_nextNode 28 = .ok (.ifnonnull 11, 3) := dk_199 0 11 (dk_at dksJ38_nextNode_1 5 rfl rfl)
theorem dJ38_nextNode_31 : decode cJ38_nextNode 31 = .ok (.new 42, 3) := dk_187 0 42 (dk_at dksJ38_nextNode_1 8 rfl rfl)
theorem dJ38_nextNode_34 : decode cJ38_nextNode 34 = .ok (.dup, 1) := dk_89 (dk_at dksJ38_nextNode_1 11 rfl rfl)
theorem dJ38_nextNode_35 : decode cJ38_nextNode 35 = .ok (.invokespecial 44, 3) := dk_183 0 44 (dk_at dksJ38_nextNode_1 12 rfl rfl)
theorem dJ38_nextNode_38 : decode cJ38_nextNode 38 = .ok (.athrow, 1) := dk_191 (dk_at dksJ38_nextNode_1 15 rfl rfl)
theorem dJ38_nextNode_39 : decode cJ38_nextNode 39 = .ok (.aload_n 0, 1) := dk_42 (dk_at dksJ38_nextNode_1 16 rfl rfl)
theorem dJ38_nextNode_40 : decode cJ38_nextNode 40 = .ok (.aload_n 1, 1) := dk_43 (dk_at dksJ38_nextNode_1 17 rfl rfl)
theorem dJ38_nextNode_41 : decode cJ38_nextNode 41 = .ok (.putfield 36, 3) := dk_181 0 36 (dk_at dksJ38_nextNode_1 18 rfl rfl)
theorem dJ38_nextNode_44 : decode cJ38_nextNode 44 = .ok (.aload_n 0, 1) := dk_42 (dk_at dksJ38_nextNode_1 21 rfl rfl)
theorem dJ38_nextNode_45 : decode cJ38_nextNode 45 = .ok (.aload_n 0, 1) := dk_42 (dk_at dksJ38_nextNode_1 22 rfl rfl)
theorem dJ38_nextNode_46 : decode cJ38_nextNode 46 = .ok (.getfield 13, 3) := dk_180 0 13 (dk_at dksJ38_nextNode_2 0 rfl rfl)
theorem dJ38_nextNode_49 : decode cJ38_nextNode 49 = .ok (.ifCond .eq 10, 3) := dk_153 0 10 (dk_at dksJ38_nextNode_2 3 rfl rfl)
theorem dJ38_nextNode_52 : decode cJ38_nextNode 52 = .ok (.aload_n 1, 1) := dk_43 (dk_at dksJ38_nextNode_2 6 rfl rfl)
theorem dJ38_nextNode_53 : decode cJ38_nextNode 53 = .ok (.getfield 45, 3) := dk_180 0 45 (dk_at dksJ38_nextNode_2 7 rfl rfl)
theorem dJ38_nextNode_56 : decode cJ38_nextNode 56 = .ok (.goto 7, 3) := dk_167 0 7 (dk_at dksJ38_nextNode_2 10 rfl rfl)
theorem dJ38_nextNode_59 : decode cJ38_nextNode 59 = .ok (.aload_n 1, 1) := dk_43 (dk_at dksJ38_nextNode_2 13 rfl rfl)
theorem dJ38_nextNode_60 : decode cJ38_nextNode 60 = .ok (.getfield 50, 3) := dk_180 0 50 (dk_at dksJ38_nextNode_2 14 rfl rfl)
theorem dJ38_nextNode_63 : decode cJ38_nextNode 63 = .ok (.putfield 26, 3) := dk_181 0 26 (dk_at dksJ38_nextNode_2 17 rfl rfl)
theorem dJ38_nextNode_66 : decode cJ38_nextNode 66 = .ok (.aload_n 1, 1) := dk_43 (dk_at dksJ38_nextNode_2 20 rfl rfl)
theorem dJ38_nextNode_67 : decode cJ38_nextNode 67 = .ok (.areturn, 1) := dk_176 (dk_at dksJ38_nextNode_2 21 rfl rfl)
abbrev cJ38_init : ByteArray := prog_57_method_1_code
def yJ38_init : MethodName := ⟨RJ38, "<init>", "(Ljava/util/LinkedHashMap;Z)V"⟩
def dkwJ38_init_1 : List UInt8 := [167, 0, 7, 43, 180, 0, 23, 181, 0, 26, 42, 43, 180, 0, 29, 181, 0, 33, 42, 1, 181, 0, 36, 177]
abbrev dktJ38_init_1 : List UInt8 := dkwJ38_init_1 ++ []
def dkwJ38_init_0 : List UInt8 := [42, 43, 181, 0, 1, 42, 183, 0, 7, 42, 28, 181, 0, 13, 42, 28, 153, 0, 10, 43, 180, 0, 17]
abbrev dktJ38_init_0 : List UInt8 := dkwJ38_init_0 ++ dktJ38_init_1
theorem dksJ38_init_0 : cJ38_init.data.toList.drop 0 = dktJ38_init_0 := by decide +kernel
theorem dksJ38_init_1 : cJ38_init.data.toList.drop 23 = dktJ38_init_1 := dk_seg dksJ38_init_0 23 rfl rfl
theorem dJ38_init_0 : decode cJ38_init 0 = .ok (.aload_n 0, 1) := dk_42 (dk_at dksJ38_init_0 0 rfl rfl)
theorem dJ38_init_1 : decode cJ38_init 1 = .ok (.aload_n 1, 1) := dk_43 (dk_at dksJ38_init_0 1 rfl rfl)
theorem dJ38_init_2 : decode cJ38_init 2 = .ok (.putfield 1, 3) := dk_181 0 1 (dk_at dksJ38_init_0 2 rfl rfl)
theorem dJ38_init_5 : decode cJ38_init 5 = .ok (.aload_n 0, 1) := dk_42 (dk_at dksJ38_init_0 5 rfl rfl)
theorem dJ38_init_6 : decode cJ38_init 6 = .ok (.invokespecial 7, 3) := dk_183 0 7 (dk_at dksJ38_init_0 6 rfl rfl)
theorem dJ38_init_9 : decode cJ38_init 9 = .ok (.aload_n 0, 1) := dk_42 (dk_at dksJ38_init_0 9 rfl rfl)
theorem dJ38_init_10 : decode cJ38_init 10 = .ok (.iload_n 2, 1) := dk_28 (dk_at dksJ38_init_0 10 rfl rfl)
theorem dJ38_init_11 : decode cJ38_init 11 = .ok (.putfield 13, 3) := dk_181 0 13 (dk_at dksJ38_init_0 11 rfl rfl)
theorem dJ38_init_14 : decode cJ38_init 14 = .ok (.aload_n 0, 1) := dk_42 (dk_at dksJ38_init_0 14 rfl rfl)
theorem dJ38_init_15 : decode cJ38_init 15 = .ok (.iload_n 2, 1) := dk_28 (dk_at dksJ38_init_0 15 rfl rfl)
theorem dJ38_init_16 : decode cJ38_init 16 = .ok (.ifCond .eq 10, 3) := dk_153 0 10 (dk_at dksJ38_init_0 16 rfl rfl)
theorem dJ38_init_19 : decode cJ38_init 19 = .ok (.aload_n 1, 1) := dk_43 (dk_at dksJ38_init_0 19 rfl rfl)
theorem dJ38_init_20 : decode cJ38_init 20 = .ok (.getfield 17, 3) := dk_180 0 17 (dk_at dksJ38_init_0 20 rfl rfl)
theorem dJ38_init_23 : decode cJ38_init 23 = .ok (.goto 7, 3) := dk_167 0 7 (dk_at dksJ38_init_1 0 rfl rfl)
theorem dJ38_init_26 : decode cJ38_init 26 = .ok (.aload_n 1, 1) := dk_43 (dk_at dksJ38_init_1 3 rfl rfl)
theorem dJ38_init_27 : decode cJ38_init 27 = .ok (.getfield 23, 3) := dk_180 0 23 (dk_at dksJ38_init_1 4 rfl rfl)
theorem dJ38_init_30 : decode cJ38_init 30 = .ok (.putfield 26, 3) := dk_181 0 26 (dk_at dksJ38_init_1 7 rfl rfl)
theorem dJ38_init_33 : decode cJ38_init 33 = .ok (.aload_n 0, 1) := dk_42 (dk_at dksJ38_init_1 10 rfl rfl)
theorem dJ38_init_34 : decode cJ38_init 34 = .ok (.aload_n 1, 1) := dk_43 (dk_at dksJ38_init_1 11 rfl rfl)
theorem dJ38_init_35 : decode cJ38_init 35 = .ok (.getfield 29, 3) := dk_180 0 29 (dk_at dksJ38_init_1 12 rfl rfl)
theorem dJ38_init_38 : decode cJ38_init 38 = .ok (.putfield 33, 3) := dk_181 0 33 (dk_at dksJ38_init_1 15 rfl rfl)
theorem dJ38_init_41 : decode cJ38_init 41 = .ok (.aload_n 0, 1) := dk_42 (dk_at dksJ38_init_1 18 rfl rfl)
theorem dJ38_init_42 : decode cJ38_init 42 = .ok (.aconst_null, 1) := dk_1 (dk_at dksJ38_init_1 19 rfl rfl)
theorem dJ38_init_43 : decode cJ38_init 43 = .ok (.putfield 36, 3) := dk_181 0 36 (dk_at dksJ38_init_1 20 rfl rfl)
theorem dJ38_init_46 : decode cJ38_init 46 = .ok (.return_, 1) := dk_177 (dk_at dksJ38_init_1 23 rfl rfl)
theorem q136 : (Jvm.Cond.initialized "java/util/LinkedHashMap$LinkedHashIterator") ∈ lw_all := lw_g (lw_at lw_m1 49 rfl) rfl
theorem q357 : (Jvm.Cond.instanceMethod ({ cls := "java/util/LinkedHashMap$LinkedHashIterator", name := "hasNext", desc := "()Z" } : Jvm.MethodName)) ∈ lw_all := lw_g (lw_at lw_m2 30 rfl) rfl
theorem q358 : (Jvm.Cond.publicMethod ({ cls := "java/util/LinkedHashMap$LinkedHashIterator", name := "hasNext", desc := "()Z" } : Jvm.MethodName)) ∈ lw_tbl := lw_at lw_m2 31 rfl
theorem q359 : (Jvm.Cond.code ({ cls := "java/util/LinkedHashMap$LinkedHashIterator", name := "hasNext", desc := "()Z" } : Jvm.MethodName) prog_57_method_2_code (1 : Nat) (Option.some Jvm.ClassFile.FieldType.boolean)) ∈ lw_all := lw_g (lw_at lw_m2 32 rfl) rfl
theorem q391 : (Jvm.Cond.declares ({ cls := "java/util/LinkedHashMap$LinkedHashIterator", name := "nextNode", desc := "()Ljava/util/LinkedHashMap$Entry;" } : Jvm.MethodName)) ∈ lw_tbl := lw_at lw_m2 64 rfl
theorem q393 : (Jvm.Cond.instanceMethod ({ cls := "java/util/LinkedHashMap$LinkedHashIterator", name := "nextNode", desc := "()Ljava/util/LinkedHashMap$Entry;" } : Jvm.MethodName)) ∈ lw_all := lw_g (lw_at lw_m2 66 rfl) rfl
theorem q394 : (Jvm.Cond.code ({ cls := "java/util/LinkedHashMap$LinkedHashIterator", name := "nextNode", desc := "()Ljava/util/LinkedHashMap$Entry;" } : Jvm.MethodName) prog_57_method_3_code (2 : Nat) (Option.some (Jvm.ClassFile.FieldType.object "java/util/LinkedHashMap$Entry"))) ∈ lw_all := lw_g (lw_at lw_m2 67 rfl) rfl
theorem q814 : (Jvm.Cond.fieldLink "java/util/LinkedHashMap$LinkedHashIterator" (23 : Nat) "java/util/LinkedHashMap" "head" "Ljava/util/LinkedHashMap$Entry;") ∈ lw_all := lw_g (lw_at lw_m4 7 rfl) rfl
theorem q815 : (Jvm.Cond.fieldLink "java/util/LinkedHashMap$LinkedHashIterator" (17 : Nat) "java/util/LinkedHashMap" "tail" "Ljava/util/LinkedHashMap$Entry;") ∈ lw_all := lw_g (lw_at lw_m4 8 rfl) rfl
theorem q827 : (Jvm.Cond.fieldLink "java/util/LinkedHashMap$LinkedHashIterator" (29 : Nat) "java/util/LinkedHashMap" "modCount" "I") ∈ lw_all := lw_g (lw_at lw_m4 20 rfl) rfl
theorem q1111 : (Jvm.Cond.fieldLink "java/util/LinkedHashMap$LinkedHashIterator" (45 : Nat) "java/util/LinkedHashMap$Entry" "before" "Ljava/util/LinkedHashMap$Entry;") ∈ lw_all := lw_g (lw_at lw_m5 64 rfl) rfl
theorem q1113 : (Jvm.Cond.fieldLink "java/util/LinkedHashMap$LinkedHashIterator" (50 : Nat) "java/util/LinkedHashMap$Entry" "after" "Ljava/util/LinkedHashMap$Entry;") ∈ lw_all := lw_g (lw_at lw_m5 66 rfl) rfl
theorem q1916 : (Jvm.Cond.instanceMethod ({ cls := "java/util/LinkedHashMap$LinkedHashIterator", name := "<init>", desc := "(Ljava/util/LinkedHashMap;Z)V" } : Jvm.MethodName)) ∈ lw_all := lw_g (lw_at lw_m8 149 rfl) rfl
theorem q1917 : (Jvm.Cond.code ({ cls := "java/util/LinkedHashMap$LinkedHashIterator", name := "<init>", desc := "(Ljava/util/LinkedHashMap;Z)V" } : Jvm.MethodName) prog_57_method_1_code (3 : Nat) (Option.none : Option Jvm.ClassFile.FieldType)) ∈ lw_all := lw_g (lw_at lw_m8 150 rfl) rfl
theorem q1918 : (Jvm.Cond.methodLink "java/util/LinkedHashMap$LinkedHashIterator" (7 : Nat) ({ cls := "java/lang/Object", name := "<init>", desc := "()V" } : Jvm.MethodName)) ∈ lw_all := lw_g (lw_at lw_m8 151 rfl) rfl
theorem q1919 : (Jvm.Cond.fieldLink "java/util/LinkedHashMap$LinkedHashIterator" (26 : Nat) "java/util/LinkedHashMap$LinkedHashIterator" "next" "Ljava/util/LinkedHashMap$Entry;") ∈ lw_all := lw_g (lw_at lw_m8 152 rfl) rfl
theorem q1920 : (Jvm.Cond.fieldLink "java/util/LinkedHashMap$LinkedHashIterator" (36 : Nat) "java/util/LinkedHashMap$LinkedHashIterator" "current" "Ljava/util/LinkedHashMap$Entry;") ∈ lw_all := lw_g (lw_at lw_m8 153 rfl) rfl
theorem q1921 : (Jvm.Cond.fieldLink "java/util/LinkedHashMap$LinkedHashIterator" (33 : Nat) "java/util/LinkedHashMap$LinkedHashIterator" "expectedModCount" "I") ∈ lw_all := lw_g (lw_at lw_m8 154 rfl) rfl
theorem q1922 : (Jvm.Cond.fieldLink "java/util/LinkedHashMap$LinkedHashIterator" (13 : Nat) "java/util/LinkedHashMap$LinkedHashIterator" "reversed" "Z") ∈ lw_all := lw_g (lw_at lw_m8 155 rfl) rfl
theorem q1923 : (Jvm.Cond.fieldLink "java/util/LinkedHashMap$LinkedHashIterator" (1 : Nat) "java/util/LinkedHashMap$LinkedHashIterator" "this$0" "Ljava/util/LinkedHashMap;") ∈ lw_all := lw_g (lw_at lw_m8 156 rfl) rfl
theorem q1925 : (Jvm.Cond.soleField "java/util/LinkedHashMap$LinkedHashIterator" "next") ∈ lw_all := lw_g (lw_at lw_m8 158 rfl) rfl
theorem q1927 : (Jvm.Cond.soleField "java/util/LinkedHashMap$LinkedHashIterator" "current") ∈ lw_all := lw_g (lw_at lw_m8 160 rfl) rfl
theorem q1929 : (Jvm.Cond.soleField "java/util/LinkedHashMap$LinkedHashIterator" "expectedModCount") ∈ lw_all := lw_g (lw_at lw_m8 162 rfl) rfl
theorem q1931 : (Jvm.Cond.soleField "java/util/LinkedHashMap$LinkedHashIterator" "reversed") ∈ lw_all := lw_g (lw_at lw_m8 164 rfl) rfl
theorem q1933 : (Jvm.Cond.soleField "java/util/LinkedHashMap$LinkedHashIterator" "this$0") ∈ lw_all := lw_g (lw_at lw_m8 166 rfl) rfl
/-! java/util/LinkedHashMap$LinkedKeyIterator -/
set_option maxRecDepth 100000
def RJ39 : String := "java/util/LinkedHashMap$LinkedKeyIterator"
def TJ39 : u_T := fun k => match k with
  | 0 => ("java/util/LinkedHashMap$LinkedHashIterator", "next", "Ljava/util/LinkedHashMap$Entry;", false)
  | 1 => ("java/util/LinkedHashMap$LinkedHashIterator", "current", "Ljava/util/LinkedHashMap$Entry;", false)
  | 2 => ("java/util/LinkedHashMap$LinkedHashIterator", "expectedModCount", "I", false)
  | 3 => ("java/util/LinkedHashMap$LinkedHashIterator", "reversed", "Z", false)
  | _ => ("java/util/LinkedHashMap$LinkedHashIterator", "this$0", "Ljava/util/LinkedHashMap;", true)
def tyJ39 : Nat → FieldType := fun k => match k with
  | 0 => .object "java/util/LinkedHashMap$Entry"
  | 1 => .object "java/util/LinkedHashMap$Entry"
  | 2 => .int
  | 3 => .boolean
  | _ => .object "java/util/LinkedHashMap"
abbrev wsJ390 : List Cond := u_ws RJ39 TJ39 5
theorem nmJ39 : ∀ a, a < 5 → ∀ b, b < 5 → a ≠ b → (TJ39 a).2.1 ≠ (TJ39 b).2.1 := by decide +kernel
theorem tyJ39_ok : ∀ k, k < 5 → parseFieldDescriptor (TJ39 k).2.2.1 = some (tyJ39 k) := by decide +kernel
abbrev cJ39_next : ByteArray := prog_58_method_2_code
def yJ39_next : MethodName := ⟨RJ39, "next", "()Ljava/lang/Object;"⟩
def dkwJ39_next_0 : List UInt8 := [42, 182, 0, 7, 182, 0, 13, 176]
abbrev dktJ39_next_0 : List UInt8 := dkwJ39_next_0 ++ []
theorem dksJ39_next_0 : cJ39_next.data.toList.drop 0 = dktJ39_next_0 := by decide +kernel
theorem dJ39_next_0 : decode cJ39_next 0 = .ok (.aload_n 0, 1) := dk_42 (dk_at dksJ39_next_0 0 rfl rfl)
theorem dJ39_next_1 : decode cJ39_next 1 = .ok (.invokevirtual 7, 3) := dk_182 0 7 (dk_at dksJ39_next_0 1 rfl rfl)
theorem dJ39_next_4 : decode cJ39_next 4 = .ok (.invokevirtual 13, 3) := dk_182 0 13 (dk_at dksJ39_next_0 4 rfl rfl)
theorem dJ39_next_7 : decode cJ39_next 7 = .ok (.areturn, 1) := dk_176 (dk_at dksJ39_next_0 7 rfl rfl)
abbrev cJ39_init : ByteArray := prog_58_method_1_code
def yJ39_init : MethodName := ⟨RJ39, "<init>", "(Ljava/util/LinkedHashMap;Z)V"⟩
def dkwJ39_init_0 : List UInt8 := [42, 43, 28, 183, 0, 1, 177]
abbrev dktJ39_init_0 : List UInt8 := dkwJ39_init_0 ++ []
theorem dksJ39_init_0 : cJ39_init.data.toList.drop 0 = dktJ39_init_0 := by decide +kernel
theorem dJ39_init_0 : decode cJ39_init 0 = .ok (.aload_n 0, 1) := dk_42 (dk_at dksJ39_init_0 0 rfl rfl)
theorem dJ39_init_1 : decode cJ39_init 1 = .ok (.aload_n 1, 1) := dk_43 (dk_at dksJ39_init_0 1 rfl rfl)
theorem dJ39_init_2 : decode cJ39_init 2 = .ok (.iload_n 2, 1) := dk_28 (dk_at dksJ39_init_0 2 rfl rfl)
theorem dJ39_init_3 : decode cJ39_init 3 = .ok (.invokespecial 1, 3) := dk_183 0 1 (dk_at dksJ39_init_0 3 rfl rfl)
theorem dJ39_init_6 : decode cJ39_init 6 = .ok (.return_, 1) := dk_177 (dk_at dksJ39_init_0 6 rfl rfl)
theorem q137 : (Jvm.Cond.initialized "java/util/LinkedHashMap$LinkedKeyIterator") ∈ lw_all := lw_g (lw_at lw_m1 50 rfl) rfl
theorem q354 : (Jvm.Cond.castable "java/util/LinkedHashMap$LinkedKeyIterator" "java/util/Iterator") ∈ lw_tbl := lw_at lw_m2 27 rfl
theorem q355 : (Jvm.Cond.selects "java/util/LinkedHashMap$LinkedKeyIterator" ({ cls := "java/util/Iterator", name := "hasNext", desc := "()Z" } : Jvm.MethodName) ({ cls := "java/util/LinkedHashMap$LinkedHashIterator", name := "hasNext", desc := "()Z" } : Jvm.MethodName)) ∈ lw_all := lw_g (lw_at lw_m2 28 rfl) rfl
theorem q356 : (Jvm.Cond.unhidden "java/util/LinkedHashMap$LinkedKeyIterator" "hasNext" "()Z") ∈ lw_tbl := lw_at lw_m2 29 rfl
theorem q384 : (Jvm.Cond.selects "java/util/LinkedHashMap$LinkedKeyIterator" ({ cls := "java/util/Iterator", name := "next", desc := "()Ljava/lang/Object;" } : Jvm.MethodName) ({ cls := "java/util/LinkedHashMap$LinkedKeyIterator", name := "next", desc := "()Ljava/lang/Object;" } : Jvm.MethodName)) ∈ lw_all := lw_g (lw_at lw_m2 57 rfl) rfl
theorem q385 : (Jvm.Cond.unhidden "java/util/LinkedHashMap$LinkedKeyIterator" "next" "()Ljava/lang/Object;") ∈ lw_tbl := lw_at lw_m2 58 rfl
theorem q386 : (Jvm.Cond.instanceMethod ({ cls := "java/util/LinkedHashMap$LinkedKeyIterator", name := "next", desc := "()Ljava/lang/Object;" } : Jvm.MethodName)) ∈ lw_all := lw_g (lw_at lw_m2 59 rfl) rfl
theorem q387 : (Jvm.Cond.publicMethod ({ cls := "java/util/LinkedHashMap$LinkedKeyIterator", name := "next", desc := "()Ljava/lang/Object;" } : Jvm.MethodName)) ∈ lw_tbl := lw_at lw_m2 60 rfl
theorem q388 : (Jvm.Cond.code ({ cls := "java/util/LinkedHashMap$LinkedKeyIterator", name := "next", desc := "()Ljava/lang/Object;" } : Jvm.MethodName) prog_58_method_2_code (1 : Nat) (Option.some (Jvm.ClassFile.FieldType.object "java/lang/Object"))) ∈ lw_all := lw_g (lw_at lw_m2 61 rfl) rfl
theorem q389 : (Jvm.Cond.methodLink "java/util/LinkedHashMap$LinkedKeyIterator" (7 : Nat) ({ cls := "java/util/LinkedHashMap$LinkedKeyIterator", name := "nextNode", desc := "()Ljava/util/LinkedHashMap$Entry;" } : Jvm.MethodName)) ∈ lw_all := lw_g (lw_at lw_m2 62 rfl) rfl
theorem q390 : (Jvm.Cond.sameMethod "java/util/LinkedHashMap$LinkedKeyIterator" "java/util/LinkedHashMap$LinkedHashIterator" "nextNode" "()Ljava/util/LinkedHashMap$Entry;") ∈ lw_all := lw_g (lw_at lw_m2 63 rfl) rfl
theorem q392 : (Jvm.Cond.selects "java/util/LinkedHashMap$LinkedKeyIterator" ({ cls := "java/util/LinkedHashMap$LinkedKeyIterator", name := "nextNode", desc := "()Ljava/util/LinkedHashMap$Entry;" } : Jvm.MethodName) ({ cls := "java/util/LinkedHashMap$LinkedHashIterator", name := "nextNode", desc := "()Ljava/util/LinkedHashMap$Entry;" } : Jvm.MethodName)) ∈ lw_all := lw_g (lw_at lw_m2 65 rfl) rfl
theorem q395 : (Jvm.Cond.methodLink "java/util/LinkedHashMap$LinkedKeyIterator" (13 : Nat) ({ cls := "java/util/LinkedHashMap$Entry", name := "getKey", desc := "()Ljava/lang/Object;" } : Jvm.MethodName)) ∈ lw_all := lw_g (lw_at lw_m2 68 rfl) rfl
theorem q480 : (Jvm.Cond.selects "java/util/LinkedHashMap$LinkedKeyIterator" ({ cls := "java/lang/Object", name := "getClass", desc := "()Ljava/lang/Class;" } : Jvm.MethodName) ({ cls := "java/lang/Object", name := "getClass", desc := "()Ljava/lang/Class;" } : Jvm.MethodName)) ∈ lw_all := lw_g (lw_at lw_m2 153 rfl) rfl
theorem q1911 : (Jvm.Cond.instantiable "java/util/LinkedHashMap$LinkedKeyIterator" (5 : Nat)) ∈ lw_all := lw_g (lw_at lw_m8 144 rfl) rfl
theorem q1913 : (Jvm.Cond.instanceMethod ({ cls := "java/util/LinkedHashMap$LinkedKeyIterator", name := "<init>", desc := "(Ljava/util/LinkedHashMap;Z)V" } : Jvm.MethodName)) ∈ lw_all := lw_g (lw_at lw_m8 146 rfl) rfl
theorem q1914 : (Jvm.Cond.code ({ cls := "java/util/LinkedHashMap$LinkedKeyIterator", name := "<init>", desc := "(Ljava/util/LinkedHashMap;Z)V" } : Jvm.MethodName) prog_58_method_1_code (3 : Nat) (Option.none : Option Jvm.ClassFile.FieldType)) ∈ lw_all := lw_g (lw_at lw_m8 147 rfl) rfl
theorem q1915 : (Jvm.Cond.methodLink "java/util/LinkedHashMap$LinkedKeyIterator" (1 : Nat) ({ cls := "java/util/LinkedHashMap$LinkedHashIterator", name := "<init>", desc := "(Ljava/util/LinkedHashMap;Z)V" } : Jvm.MethodName)) ∈ lw_all := lw_g (lw_at lw_m8 148 rfl) rfl
theorem q1924 : (Jvm.Cond.lays "java/util/LinkedHashMap$LinkedKeyIterator" "java/util/LinkedHashMap$LinkedHashIterator" "next" "Ljava/util/LinkedHashMap$Entry;") ∈ lw_all := lw_g (lw_at lw_m8 157 rfl) rfl
theorem q1926 : (Jvm.Cond.lays "java/util/LinkedHashMap$LinkedKeyIterator" "java/util/LinkedHashMap$LinkedHashIterator" "current" "Ljava/util/LinkedHashMap$Entry;") ∈ lw_all := lw_g (lw_at lw_m8 159 rfl) rfl
theorem q1928 : (Jvm.Cond.lays "java/util/LinkedHashMap$LinkedKeyIterator" "java/util/LinkedHashMap$LinkedHashIterator" "expectedModCount" "I") ∈ lw_all := lw_g (lw_at lw_m8 161 rfl) rfl
theorem q1930 : (Jvm.Cond.lays "java/util/LinkedHashMap$LinkedKeyIterator" "java/util/LinkedHashMap$LinkedHashIterator" "reversed" "Z") ∈ lw_all := lw_g (lw_at lw_m8 163 rfl) rfl
theorem q1932 : (Jvm.Cond.laysFinal "java/util/LinkedHashMap$LinkedKeyIterator" "java/util/LinkedHashMap$LinkedHashIterator" "this$0" "Ljava/util/LinkedHashMap;") ∈ lw_all := lw_g (lw_at lw_m8 165 rfl) rfl
theorem q1934 : (Jvm.Cond.superclass "java/util/LinkedHashMap$LinkedKeyIterator" "java/util/LinkedHashMap$LinkedHashIterator") ∈ lw_all := lw_g (lw_at lw_m8 167 rfl) rfl
theorem q2909 : (Jvm.Cond.castable "java/util/LinkedHashMap$LinkedKeyIterator" "java/lang/Object") ∈ lw_tbl := lw_at lw_m12 182 rfl
theorem in_J39 : ∀ w ∈ wsJ390, w ∈ lw_all := lw_in wsJ390 [1924, 1926, 1928, 1930, 1932] (by decide +kernel) (by decide +kernel)
/-! java/util/HashMap$KeySet -/
set_option maxRecDepth 100000
def RJ40 : String := "java/util/HashMap$KeySet"
abbrev cJ40_size : ByteArray := prog_50_method_2_code
def yJ40_size : MethodName := ⟨RJ40, "size", "()I"⟩
def dkwJ40_size_0 : List UInt8 := [42, 180, 0, 1, 180, 0, 13, 172]
abbrev dktJ40_size_0 : List UInt8 := dkwJ40_size_0 ++ []
theorem dksJ40_size_0 : cJ40_size.data.toList.drop 0 = dktJ40_size_0 := by decide +kernel
theorem dJ40_size_0 : decode cJ40_size 0 = .ok (.aload_n 0, 1) := dk_42 (dk_at dksJ40_size_0 0 rfl rfl)
theorem dJ40_size_1 : decode cJ40_size 1 = .ok (.getfield 1, 3) := dk_180 0 1 (dk_at dksJ40_size_0 1 rfl rfl)
theorem dJ40_size_4 : decode cJ40_size 4 = .ok (.getfield 13, 3) := dk_180 0 13 (dk_at dksJ40_size_0 4 rfl rfl)
theorem dJ40_size_7 : decode cJ40_size 7 = .ok (.ireturn, 1) := dk_172 (dk_at dksJ40_size_0 7 rfl rfl)
abbrev cJ40_iterator : ByteArray := prog_50_method_4_code
def yJ40_iterator : MethodName := ⟨RJ40, "iterator", "()Ljava/util/Iterator;"⟩
def dkwJ40_iterator_0 : List UInt8 := [187, 0, 22, 89, 42, 180, 0, 1, 183, 0, 24, 176]
abbrev dktJ40_iterator_0 : List UInt8 := dkwJ40_iterator_0 ++ []
theorem dksJ40_iterator_0 : cJ40_iterator.data.toList.drop 0 = dktJ40_iterator_0 := by decide +kernel
theorem dJ40_iterator_0 : decode cJ40_iterator 0 = .ok (.new 22, 3) := dk_187 0 22 (dk_at dksJ40_iterator_0 0 rfl rfl)
theorem dJ40_iterator_3 : decode cJ40_iterator 3 = .ok (.dup, 1) := dk_89 (dk_at dksJ40_iterator_0 3 rfl rfl)
theorem dJ40_iterator_4 : decode cJ40_iterator 4 = .ok (.aload_n 0, 1) := dk_42 (dk_at dksJ40_iterator_0 4 rfl rfl)
theorem dJ40_iterator_5 : decode cJ40_iterator 5 = .ok (.getfield 1, 3) := dk_180 0 1 (dk_at dksJ40_iterator_0 5 rfl rfl)
theorem dJ40_iterator_8 : decode cJ40_iterator 8 = .ok (.invokespecial 24, 3) := dk_183 0 24 (dk_at dksJ40_iterator_0 8 rfl rfl)
theorem dJ40_iterator_11 : decode cJ40_iterator 11 = .ok (.areturn, 1) := dk_176 (dk_at dksJ40_iterator_0 11 rfl rfl)
theorem q138 : (Jvm.Cond.initialized "java/util/HashMap$KeySet") ∈ lw_all := lw_g (lw_at lw_m1 51 rfl) rfl
theorem q475 : (Jvm.Cond.selects "java/util/HashMap$KeySet" ({ cls := "java/lang/Object", name := "getClass", desc := "()Ljava/lang/Class;" } : Jvm.MethodName) ({ cls := "java/lang/Object", name := "getClass", desc := "()Ljava/lang/Class;" } : Jvm.MethodName)) ∈ lw_all := lw_g (lw_at lw_m2 148 rfl) rfl
theorem q822 : (Jvm.Cond.fieldLink "java/util/HashMap$KeySet" (13 : Nat) "java/util/HashMap" "size" "I") ∈ lw_all := lw_g (lw_at lw_m4 15 rfl) rfl
theorem q939 : (Jvm.Cond.selects "java/util/HashMap$KeySet" ({ cls := "java/util/AbstractCollection", name := "size", desc := "()I" } : Jvm.MethodName) ({ cls := "java/util/HashMap$KeySet", name := "size", desc := "()I" } : Jvm.MethodName)) ∈ lw_all := lw_g (lw_at lw_m4 132 rfl) rfl
theorem q940 : (Jvm.Cond.instanceMethod ({ cls := "java/util/HashMap$KeySet", name := "size", desc := "()I" } : Jvm.MethodName)) ∈ lw_all := lw_g (lw_at lw_m4 133 rfl) rfl
theorem q941 : (Jvm.Cond.code ({ cls := "java/util/HashMap$KeySet", name := "size", desc := "()I" } : Jvm.MethodName) prog_50_method_2_code (1 : Nat) (Option.some Jvm.ClassFile.FieldType.int)) ∈ lw_all := lw_g (lw_at lw_m4 134 rfl) rfl
theorem q1873 : (Jvm.Cond.castable "java/util/HashMap$KeySet" "java/util/Set") ∈ lw_tbl := lw_at lw_m8 106 rfl
theorem q1874 : (Jvm.Cond.selects "java/util/HashMap$KeySet" ({ cls := "java/util/Set", name := "iterator", desc := "()Ljava/util/Iterator;" } : Jvm.MethodName) ({ cls := "java/util/HashMap$KeySet", name := "iterator", desc := "()Ljava/util/Iterator;" } : Jvm.MethodName)) ∈ lw_all := lw_g (lw_at lw_m8 107 rfl) rfl
theorem q1875 : (Jvm.Cond.unhidden "java/util/HashMap$KeySet" "iterator" "()Ljava/util/Iterator;") ∈ lw_tbl := lw_at lw_m8 108 rfl
theorem q1876 : (Jvm.Cond.instanceMethod ({ cls := "java/util/HashMap$KeySet", name := "iterator", desc := "()Ljava/util/Iterator;" } : Jvm.MethodName)) ∈ lw_all := lw_g (lw_at lw_m8 109 rfl) rfl
theorem q1877 : (Jvm.Cond.publicMethod ({ cls := "java/util/HashMap$KeySet", name := "iterator", desc := "()Ljava/util/Iterator;" } : Jvm.MethodName)) ∈ lw_tbl := lw_at lw_m8 110 rfl
theorem q1878 : (Jvm.Cond.code ({ cls := "java/util/HashMap$KeySet", name := "iterator", desc := "()Ljava/util/Iterator;" } : Jvm.MethodName) prog_50_method_4_code (1 : Nat) (Option.some (Jvm.ClassFile.FieldType.object "java/util/Iterator"))) ∈ lw_all := lw_g (lw_at lw_m8 111 rfl) rfl
theorem q1879 : (Jvm.Cond.classLink "java/util/HashMap$KeySet" (22 : Nat) "java/util/HashMap$KeyIterator") ∈ lw_all := lw_g (lw_at lw_m8 112 rfl) rfl
theorem q1881 : (Jvm.Cond.methodLink "java/util/HashMap$KeySet" (24 : Nat) ({ cls := "java/util/HashMap$KeyIterator", name := "<init>", desc := "(Ljava/util/HashMap;)V" } : Jvm.MethodName)) ∈ lw_all := lw_g (lw_at lw_m8 114 rfl) rfl
theorem q2910 : (Jvm.Cond.castable "java/util/HashMap$KeySet" "java/lang/Object") ∈ lw_tbl := lw_at lw_m12 183 rfl
theorem q2929 : (Jvm.Cond.fieldLink "java/util/HashMap$KeySet" (1 : Nat) "java/util/HashMap$KeySet" "this$0" "Ljava/util/HashMap;") ∈ lw_all := lw_g (lw_at lw_m12 202 rfl) rfl
/-! java/lang/Object -/
set_option maxRecDepth 100000
def RJ41 : String := "java/lang/Object"
abbrev cJ41_init : ByteArray := object_method_1_code
def yJ41_init : MethodName := ⟨RJ41, "<init>", "()V"⟩
theorem dJ41_init_0 : decode cJ41_init 0 = .ok (.return_, 1) := by decide +kernel
abbrev cJ41_equals : ByteArray := object_method_4_code
def yJ41_equals : MethodName := ⟨RJ41, "equals", "(Ljava/lang/Object;)Z"⟩
def dkwJ41_equals_0 : List UInt8 := [42, 43, 166, 0, 7, 4, 167, 0, 4, 3, 172]
abbrev dktJ41_equals_0 : List UInt8 := dkwJ41_equals_0 ++ []
theorem dksJ41_equals_0 : cJ41_equals.data.toList.drop 0 = dktJ41_equals_0 := by decide +kernel
theorem dJ41_equals_0 : decode cJ41_equals 0 = .ok (.aload_n 0, 1) := dk_42 (dk_at dksJ41_equals_0 0 rfl rfl)
theorem dJ41_equals_1 : decode cJ41_equals 1 = .ok (.aload_n 1, 1) := dk_43 (dk_at dksJ41_equals_0 1 rfl rfl)
theorem dJ41_equals_2 : decode cJ41_equals 2 = .ok (.if_acmp .ne 7, 3) := dk_166 0 7 (dk_at dksJ41_equals_0 2 rfl rfl)
theorem dJ41_equals_5 : decode cJ41_equals 5 = .ok (.iconst 1, 1) := dk_4 (dk_at dksJ41_equals_0 5 rfl rfl)
theorem dJ41_equals_6 : decode cJ41_equals 6 = .ok (.goto 4, 3) := dk_167 0 4 (dk_at dksJ41_equals_0 6 rfl rfl)
theorem dJ41_equals_9 : decode cJ41_equals 9 = .ok (.iconst 0, 1) := dk_3 (dk_at dksJ41_equals_0 9 rfl rfl)
theorem dJ41_equals_10 : decode cJ41_equals 10 = .ok (.ireturn, 1) := dk_172 (dk_at dksJ41_equals_0 10 rfl rfl)
theorem q153 : (Jvm.Cond.instanceMethod ({ cls := "java/lang/Object", name := "<init>", desc := "()V" } : Jvm.MethodName)) ∈ lw_all := lw_g (lw_at lw_m1 66 rfl) rfl
theorem q154 : (Jvm.Cond.code ({ cls := "java/lang/Object", name := "<init>", desc := "()V" } : Jvm.MethodName) object_method_1_code (1 : Nat) (Option.none : Option Jvm.ClassFile.FieldType)) ∈ lw_all := lw_g (lw_at lw_m1 67 rfl) rfl
theorem q454 : (Jvm.Cond.instanceMethod ({ cls := "java/lang/Object", name := "getClass", desc := "()Ljava/lang/Class;" } : Jvm.MethodName)) ∈ lw_all := lw_g (lw_at lw_m2 127 rfl) rfl
theorem q455 : (Jvm.Cond.sameMethod "java/lang/Object" "java/lang/Object" "getClass" "()Ljava/lang/Class;") ∈ lw_all := lw_g (lw_at lw_m2 128 rfl) rfl
theorem q486 : (Jvm.Cond.native ({ cls := "java/lang/Object", name := "getClass", desc := "()Ljava/lang/Class;" } : Jvm.MethodName)) ∈ lw_all := lw_g (lw_at lw_m2 159 rfl) rfl
theorem q980 : (Jvm.Cond.declares ({ cls := "java/lang/Object", name := "hashCode", desc := "()I" } : Jvm.MethodName)) ∈ lw_tbl := lw_at lw_m4 173 rfl
theorem q982 : (Jvm.Cond.instanceMethod ({ cls := "java/lang/Object", name := "hashCode", desc := "()I" } : Jvm.MethodName)) ∈ lw_all := lw_g (lw_at lw_m4 175 rfl) rfl
theorem q983 : (Jvm.Cond.sameMethod "java/lang/Object" "java/lang/Object" "hashCode" "()I") ∈ lw_all := lw_g (lw_at lw_m4 176 rfl) rfl
theorem q1070 : (Jvm.Cond.native ({ cls := "java/lang/Object", name := "hashCode", desc := "()I" } : Jvm.MethodName)) ∈ lw_all := lw_g (lw_at lw_m5 23 rfl) rfl
theorem q1403 : (Jvm.Cond.declares ({ cls := "java/lang/Object", name := "equals", desc := "(Ljava/lang/Object;)Z" } : Jvm.MethodName)) ∈ lw_tbl := lw_at lw_m6 116 rfl
theorem q1405 : (Jvm.Cond.instanceMethod ({ cls := "java/lang/Object", name := "equals", desc := "(Ljava/lang/Object;)Z" } : Jvm.MethodName)) ∈ lw_all := lw_g (lw_at lw_m6 118 rfl) rfl
theorem q1406 : (Jvm.Cond.sameMethod "java/lang/Object" "java/lang/Object" "equals" "(Ljava/lang/Object;)Z") ∈ lw_all := lw_g (lw_at lw_m6 119 rfl) rfl
theorem q1436 : (Jvm.Cond.code ({ cls := "java/lang/Object", name := "equals", desc := "(Ljava/lang/Object;)Z" } : Jvm.MethodName) object_method_4_code (2 : Nat) (Option.some Jvm.ClassFile.FieldType.boolean)) ∈ lw_all := lw_g (lw_at lw_m6 149 rfl) rfl
theorem q1560 : (Jvm.Cond.native ({ cls := "java/lang/Object", name := "clone", desc := "()Ljava/lang/Object;" } : Jvm.MethodName)) ∈ lw_all := lw_g (lw_at lw_m7 33 rfl) rfl
theorem q1561 : (Jvm.Cond.instanceMethod ({ cls := "java/lang/Object", name := "clone", desc := "()Ljava/lang/Object;" } : Jvm.MethodName)) ∈ lw_all := lw_g (lw_at lw_m7 34 rfl) rfl
theorem q2881 : (Jvm.Cond.initialized "java/lang/Object") ∈ lw_all := lw_g (lw_at lw_m12 154 rfl) rfl
theorem q2920 : (Jvm.Cond.declares ({ cls := "java/lang/Object", name := "getClass", desc := "()Ljava/lang/Class;" } : Jvm.MethodName)) ∈ lw_tbl := lw_at lw_m12 193 rfl
theorem q87 : (Jvm.Cond.initialized "ParityMazeLaw") ∈ lw_all := lw_g (lw_at lw_m1 0 rfl) rfl
set_option maxRecDepth 100000
theorem q142 : (Jvm.Cond.classLink "ParityMazeLaw" (7 : Nat) "ParityMaze") ∈ lw_all := lw_g (lw_at lw_m1 55 rfl) rfl
theorem q144 : (Jvm.Cond.methodLink "ParityMazeLaw" (9 : Nat) ({ cls := "ParityMaze", name := "<init>", desc := "()V" } : Jvm.MethodName)) ∈ lw_all := lw_g (lw_at lw_m1 57 rfl) rfl
theorem q298 : (Jvm.Cond.methodLink "ParityMazeLaw" (13 : Nat) ({ cls := "ParityMaze", name := "room", desc := "(I)I" } : Jvm.MethodName)) ∈ lw_all := lw_g (lw_at lw_m1 211 rfl) rfl
theorem q630 : (Jvm.Cond.methodLink "ParityMazeLaw" (18 : Nat) ({ cls := "ParityMaze", name := "door", desc := "(IIII)I" } : Jvm.MethodName)) ∈ lw_all := lw_g (lw_at lw_m3 63 rfl) rfl
theorem q715 : (Jvm.Cond.methodLink "ParityMazeLaw" (23 : Nat) ({ cls := "ParityMaze", name := "key", desc := "(II)I" } : Jvm.MethodName)) ∈ lw_all := lw_g (lw_at lw_m3 148 rfl) rfl
theorem q724 : (Jvm.Cond.methodLink "ParityMazeLaw" (28 : Nat) ({ cls := "ParityMaze", name := "oil", desc := "(II)I" } : Jvm.MethodName)) ∈ lw_all := lw_g (lw_at lw_m3 157 rfl) rfl
theorem q732 : (Jvm.Cond.methodLink "ParityMazeLaw" (32 : Nat) ({ cls := "ParityMaze", name := "roomOf", desc := "(II)I" } : Jvm.MethodName)) ∈ lw_all := lw_g (lw_at lw_m3 165 rfl) rfl
theorem q1662 : (Jvm.Cond.methodLink "ParityMazeLaw" (36 : Nat) ({ cls := "ParityMaze", name := "doorOf", desc := "(II)I" } : Jvm.MethodName)) ∈ lw_all := lw_g (lw_at lw_m7 135 rfl) rfl
theorem q1676 : (Jvm.Cond.methodLink "ParityMazeLaw" (40 : Nat) ({ cls := "ParityMaze", name := "go", desc := "(I)I" } : Jvm.MethodName)) ∈ lw_all := lw_g (lw_at lw_m7 149 rfl) rfl
theorem q1707 : (Jvm.Cond.methodLink "ParityMazeLaw" (44 : Nat) ({ cls := "ParityMaze", name := "rest", desc := "(I)I" } : Jvm.MethodName)) ∈ lw_all := lw_g (lw_at lw_m7 180 rfl) rfl
theorem q1719 : (Jvm.Cond.methodLink "ParityMazeLaw" (48 : Nat) ({ cls := "ParityMaze", name := "take", desc := "(I)I" } : Jvm.MethodName)) ∈ lw_all := lw_g (lw_at lw_m7 192 rfl) rfl
theorem q1727 : (Jvm.Cond.methodLink "ParityMazeLaw" (52 : Nat) ({ cls := "ParityMaze", name := "open", desc := "(I)I" } : Jvm.MethodName)) ∈ lw_all := lw_g (lw_at lw_m7 200 rfl) rfl
theorem q1739 : (Jvm.Cond.methodLink "ParityMazeLaw" (56 : Nat) ({ cls := "ParityMaze", name := "walker", desc := "(I)I" } : Jvm.MethodName)) ∈ lw_all := lw_g (lw_at lw_m7 212 rfl) rfl
theorem q1755 : (Jvm.Cond.methodLink "ParityMazeLaw" (60 : Nat) ({ cls := "ParityMaze", name := "way", desc := "(III)I" } : Jvm.MethodName)) ∈ lw_all := lw_g (lw_at lw_m7 228 rfl) rfl
theorem q1767 : (Jvm.Cond.methodLink "ParityMazeLaw" (65 : Nat) ({ cls := "ParityMaze", name := "wayAgain", desc := "(III)I" } : Jvm.MethodName)) ∈ lw_all := lw_g (lw_at lw_m8 0 rfl) rfl
theorem q1786 : (Jvm.Cond.methodLink "ParityMazeLaw" (69 : Nat) ({ cls := "ParityMaze", name := "onWay", desc := "(IIII)I" } : Jvm.MethodName)) ∈ lw_all := lw_g (lw_at lw_m8 19 rfl) rfl
theorem q1827 : (Jvm.Cond.methodLink "ParityMazeLaw" (73 : Nat) ({ cls := "ParityMaze", name := "longerBack", desc := "(III)I" } : Jvm.MethodName)) ∈ lw_all := lw_g (lw_at lw_m8 60 rfl) rfl
theorem q1835 : (Jvm.Cond.methodLink "ParityMazeLaw" (77 : Nat) ({ cls := "ParityMaze", name := "reach", desc := "()I" } : Jvm.MethodName)) ∈ lw_all := lw_g (lw_at lw_m8 68 rfl) rfl
theorem q1948 : (Jvm.Cond.methodLink "ParityMazeLaw" (82 : Nat) ({ cls := "ParityMaze", name := "nearestKey", desc := "(I)I" } : Jvm.MethodName)) ∈ lw_all := lw_g (lw_at lw_m8 181 rfl) rfl
theorem q1956 : (Jvm.Cond.methodLink "ParityMazeLaw" (86 : Nat) ({ cls := "ParityMaze", name := "ranked", desc := "(I)I" } : Jvm.MethodName)) ∈ lw_all := lw_g (lw_at lw_m8 189 rfl) rfl
theorem q1967 : (Jvm.Cond.methodLink "ParityMazeLaw" (90 : Nat) ({ cls := "ParityMaze", name := "append", desc := "(I)I" } : Jvm.MethodName)) ∈ lw_all := lw_g (lw_at lw_m8 200 rfl) rfl
theorem q2038 : (Jvm.Cond.methodLink "ParityMazeLaw" (94 : Nat) ({ cls := "ParityMaze", name := "run", desc := "()I" } : Jvm.MethodName)) ∈ lw_all := lw_g (lw_at lw_m9 31 rfl) rfl
theorem q2232 : (Jvm.Cond.methodLink "ParityMazeLaw" (98 : Nat) ({ cls := "ParityMaze", name := "tell", desc := "(I)I" } : Jvm.MethodName)) ∈ lw_all := lw_g (lw_at lw_m9 225 rfl) rfl
theorem q2360 : (Jvm.Cond.methodLink "ParityMazeLaw" (102 : Nat) ({ cls := "ParityMaze", name := "tellDoor", desc := "(I)I" } : Jvm.MethodName)) ∈ lw_all := lw_g (lw_at lw_m10 113 rfl) rfl
theorem q2376 : (Jvm.Cond.methodLink "ParityMazeLaw" (106 : Nat) ({ cls := "ParityMaze", name := "character", desc := "(I)I" } : Jvm.MethodName)) ∈ lw_all := lw_g (lw_at lw_m10 129 rfl) rfl
theorem q2381 : (Jvm.Cond.methodLink "ParityMazeLaw" (110 : Nat) ({ cls := "ParityMaze", name := "reason", desc := "(Z)I" } : Jvm.MethodName)) ∈ lw_all := lw_g (lw_at lw_m10 134 rfl) rfl
theorem q2385 : (Jvm.Cond.methodLink "ParityMazeLaw" (115 : Nat) ({ cls := "ParityMaze", name := "account", desc := "(I)I" } : Jvm.MethodName)) ∈ lw_all := lw_g (lw_at lw_m10 138 rfl) rfl
theorem q2414 : (Jvm.Cond.methodLink "ParityMazeLaw" (119 : Nat) ({ cls := "ParityMaze", name := "isBalanced", desc := "()I" } : Jvm.MethodName)) ∈ lw_all := lw_g (lw_at lw_m10 167 rfl) rfl
theorem q2429 : (Jvm.Cond.methodLink "ParityMazeLaw" (123 : Nat) ({ cls := "ParityMaze", name := "meanOil", desc := "()D" } : Jvm.MethodName)) ∈ lw_all := lw_g (lw_at lw_m10 182 rfl) rfl
theorem q2433 : (Jvm.Cond.methodLink "ParityMazeLaw" (128 : Nat) ({ cls := "ParityMaze", name := "doubledShare", desc := "()F" } : Jvm.MethodName)) ∈ lw_all := lw_g (lw_at lw_m10 186 rfl) rfl
theorem q2448 : (Jvm.Cond.methodLink "ParityMazeLaw" (133 : Nat) ({ cls := "ParityMaze", name := "undo", desc := "()I" } : Jvm.MethodName)) ∈ lw_all := lw_g (lw_at lw_m10 201 rfl) rfl
theorem q2467 : (Jvm.Cond.methodLink "ParityMazeLaw" (137 : Nat) ({ cls := "ParityMaze", name := "save", desc := "()I" } : Jvm.MethodName)) ∈ lw_all := lw_g (lw_at lw_m10 220 rfl) rfl
theorem q2471 : (Jvm.Cond.methodLink "ParityMazeLaw" (141 : Nat) ({ cls := "ParityMaze", name := "restore", desc := "()I" } : Jvm.MethodName)) ∈ lw_all := lw_g (lw_at lw_m10 224 rfl) rfl
theorem q2482 : (Jvm.Cond.classLink "ParityMazeLaw" (10 : Nat) "ParityMazeModel") ∈ lw_all := lw_g (lw_at lw_m10 235 rfl) rfl
theorem q2484 : (Jvm.Cond.methodLink "ParityMazeLaw" (12 : Nat) ({ cls := "ParityMazeModel", name := "<init>", desc := "()V" } : Jvm.MethodName)) ∈ lw_all := lw_g (lw_at lw_m10 237 rfl) rfl
theorem q2543 : (Jvm.Cond.methodLink "ParityMazeLaw" (17 : Nat) ({ cls := "ParityMazeModel", name := "room", desc := "(I)I" } : Jvm.MethodName)) ∈ lw_all := lw_g (lw_at lw_m11 56 rfl) rfl
theorem q2561 : (Jvm.Cond.methodLink "ParityMazeLaw" (22 : Nat) ({ cls := "ParityMazeModel", name := "door", desc := "(IIII)I" } : Jvm.MethodName)) ∈ lw_all := lw_g (lw_at lw_m11 74 rfl) rfl
theorem q2583 : (Jvm.Cond.methodLink "ParityMazeLaw" (27 : Nat) ({ cls := "ParityMazeModel", name := "key", desc := "(II)I" } : Jvm.MethodName)) ∈ lw_all := lw_g (lw_at lw_m11 96 rfl) rfl
theorem q2590 : (Jvm.Cond.methodLink "ParityMazeLaw" (31 : Nat) ({ cls := "ParityMazeModel", name := "oil", desc := "(II)I" } : Jvm.MethodName)) ∈ lw_all := lw_g (lw_at lw_m11 103 rfl) rfl
theorem q2598 : (Jvm.Cond.methodLink "ParityMazeLaw" (43 : Nat) ({ cls := "ParityMazeModel", name := "go", desc := "(I)I" } : Jvm.MethodName)) ∈ lw_all := lw_g (lw_at lw_m11 111 rfl) rfl
theorem q2626 : (Jvm.Cond.methodLink "ParityMazeLaw" (47 : Nat) ({ cls := "ParityMazeModel", name := "rest", desc := "(I)I" } : Jvm.MethodName)) ∈ lw_all := lw_g (lw_at lw_m11 139 rfl) rfl
theorem q2630 : (Jvm.Cond.methodLink "ParityMazeLaw" (51 : Nat) ({ cls := "ParityMazeModel", name := "take", desc := "(I)I" } : Jvm.MethodName)) ∈ lw_all := lw_g (lw_at lw_m11 143 rfl) rfl
theorem q2634 : (Jvm.Cond.methodLink "ParityMazeLaw" (55 : Nat) ({ cls := "ParityMazeModel", name := "open", desc := "(I)I" } : Jvm.MethodName)) ∈ lw_all := lw_g (lw_at lw_m11 147 rfl) rfl
theorem q2638 : (Jvm.Cond.methodLink "ParityMazeLaw" (59 : Nat) ({ cls := "ParityMazeModel", name := "walker", desc := "(I)I" } : Jvm.MethodName)) ∈ lw_all := lw_g (lw_at lw_m11 151 rfl) rfl
theorem q2646 : (Jvm.Cond.methodLink "ParityMazeLaw" (64 : Nat) ({ cls := "ParityMazeModel", name := "way", desc := "(III)I" } : Jvm.MethodName)) ∈ lw_all := lw_g (lw_at lw_m11 159 rfl) rfl
theorem q2670 : (Jvm.Cond.methodLink "ParityMazeLaw" (68 : Nat) ({ cls := "ParityMazeModel", name := "wayAgain", desc := "(III)I" } : Jvm.MethodName)) ∈ lw_all := lw_g (lw_at lw_m11 183 rfl) rfl
theorem q2675 : (Jvm.Cond.methodLink "ParityMazeLaw" (72 : Nat) ({ cls := "ParityMazeModel", name := "onWay", desc := "(IIII)I" } : Jvm.MethodName)) ∈ lw_all := lw_g (lw_at lw_m11 188 rfl) rfl
theorem q2687 : (Jvm.Cond.methodLink "ParityMazeLaw" (76 : Nat) ({ cls := "ParityMazeModel", name := "longerBack", desc := "(III)I" } : Jvm.MethodName)) ∈ lw_all := lw_g (lw_at lw_m11 200 rfl) rfl
theorem q2691 : (Jvm.Cond.methodLink "ParityMazeLaw" (35 : Nat) ({ cls := "ParityMazeModel", name := "roomOf", desc := "(II)I" } : Jvm.MethodName)) ∈ lw_all := lw_g (lw_at lw_m11 204 rfl) rfl
theorem q2707 : (Jvm.Cond.methodLink "ParityMazeLaw" (39 : Nat) ({ cls := "ParityMazeModel", name := "doorOf", desc := "(II)I" } : Jvm.MethodName)) ∈ lw_all := lw_g (lw_at lw_m11 220 rfl) rfl
theorem q2711 : (Jvm.Cond.methodLink "ParityMazeLaw" (81 : Nat) ({ cls := "ParityMazeModel", name := "reach", desc := "()I" } : Jvm.MethodName)) ∈ lw_all := lw_g (lw_at lw_m11 224 rfl) rfl
theorem q2715 : (Jvm.Cond.methodLink "ParityMazeLaw" (85 : Nat) ({ cls := "ParityMazeModel", name := "nearestKey", desc := "(I)I" } : Jvm.MethodName)) ∈ lw_all := lw_g (lw_at lw_m11 228 rfl) rfl
theorem q2719 : (Jvm.Cond.methodLink "ParityMazeLaw" (89 : Nat) ({ cls := "ParityMazeModel", name := "ranked", desc := "(I)I" } : Jvm.MethodName)) ∈ lw_all := lw_g (lw_at lw_m11 232 rfl) rfl
theorem q2723 : (Jvm.Cond.methodLink "ParityMazeLaw" (93 : Nat) ({ cls := "ParityMazeModel", name := "append", desc := "(I)I" } : Jvm.MethodName)) ∈ lw_all := lw_g (lw_at lw_m11 236 rfl) rfl
theorem q2727 : (Jvm.Cond.methodLink "ParityMazeLaw" (97 : Nat) ({ cls := "ParityMazeModel", name := "run", desc := "()I" } : Jvm.MethodName)) ∈ lw_all := lw_g (lw_at lw_m12 0 rfl) rfl
theorem q2789 : (Jvm.Cond.methodLink "ParityMazeLaw" (101 : Nat) ({ cls := "ParityMazeModel", name := "tell", desc := "(I)I" } : Jvm.MethodName)) ∈ lw_all := lw_g (lw_at lw_m12 62 rfl) rfl
theorem q2801 : (Jvm.Cond.methodLink "ParityMazeLaw" (105 : Nat) ({ cls := "ParityMazeModel", name := "tellDoor", desc := "(I)I" } : Jvm.MethodName)) ∈ lw_all := lw_g (lw_at lw_m12 74 rfl) rfl
theorem q2805 : (Jvm.Cond.methodLink "ParityMazeLaw" (109 : Nat) ({ cls := "ParityMazeModel", name := "character", desc := "(I)I" } : Jvm.MethodName)) ∈ lw_all := lw_g (lw_at lw_m12 78 rfl) rfl
theorem q2809 : (Jvm.Cond.methodLink "ParityMazeLaw" (114 : Nat) ({ cls := "ParityMazeModel", name := "reason", desc := "(Z)I" } : Jvm.MethodName)) ∈ lw_all := lw_g (lw_at lw_m12 82 rfl) rfl
theorem q2813 : (Jvm.Cond.methodLink "ParityMazeLaw" (118 : Nat) ({ cls := "ParityMazeModel", name := "account", desc := "(I)I" } : Jvm.MethodName)) ∈ lw_all := lw_g (lw_at lw_m12 86 rfl) rfl
theorem q2837 : (Jvm.Cond.methodLink "ParityMazeLaw" (122 : Nat) ({ cls := "ParityMazeModel", name := "isBalanced", desc := "()I" } : Jvm.MethodName)) ∈ lw_all := lw_g (lw_at lw_m12 110 rfl) rfl
theorem q2841 : (Jvm.Cond.methodLink "ParityMazeLaw" (127 : Nat) ({ cls := "ParityMazeModel", name := "meanOil", desc := "()D" } : Jvm.MethodName)) ∈ lw_all := lw_g (lw_at lw_m12 114 rfl) rfl
theorem q2845 : (Jvm.Cond.methodLink "ParityMazeLaw" (132 : Nat) ({ cls := "ParityMazeModel", name := "doubledShare", desc := "()F" } : Jvm.MethodName)) ∈ lw_all := lw_g (lw_at lw_m12 118 rfl) rfl
theorem q2849 : (Jvm.Cond.methodLink "ParityMazeLaw" (136 : Nat) ({ cls := "ParityMazeModel", name := "undo", desc := "()I" } : Jvm.MethodName)) ∈ lw_all := lw_g (lw_at lw_m12 122 rfl) rfl
theorem q2853 : (Jvm.Cond.methodLink "ParityMazeLaw" (140 : Nat) ({ cls := "ParityMazeModel", name := "save", desc := "()I" } : Jvm.MethodName)) ∈ lw_all := lw_g (lw_at lw_m12 126 rfl) rfl
theorem q2857 : (Jvm.Cond.methodLink "ParityMazeLaw" (144 : Nat) ({ cls := "ParityMazeModel", name := "restore", desc := "()I" } : Jvm.MethodName)) ∈ lw_all := lw_g (lw_at lw_m12 130 rfl) rfl
theorem q1999 : (Jvm.Cond.sameMethod "[B" "java/lang/Object" "clone" "()Ljava/lang/Object;") ∈ lw_all := lw_g (lw_at lw_m8 232 rfl) rfl
set_option maxRecDepth 100000
theorem q2000 : (Jvm.Cond.selects "[B" ({ cls := "[B", name := "clone", desc := "()Ljava/lang/Object;" } : Jvm.MethodName) ({ cls := "java/lang/Object", name := "clone", desc := "()Ljava/lang/Object;" } : Jvm.MethodName)) ∈ lw_all := lw_g (lw_at lw_m8 233 rfl) rfl
theorem q2001 : (Jvm.Cond.castable "[B" "java/lang/Cloneable") ∈ lw_tbl := lw_at lw_m8 234 rfl
theorem q2923 : (Jvm.Cond.castable "[B" "java/lang/Object") ∈ lw_tbl := lw_at lw_m12 196 rfl
theorem q2922 : (Jvm.Cond.castable "[I" "java/lang/Object") ∈ lw_tbl := lw_at lw_m12 195 rfl
set_option maxRecDepth 100000
theorem q1559 : (Jvm.Cond.sameMethod "[J" "java/lang/Object" "clone" "()Ljava/lang/Object;") ∈ lw_all := lw_g (lw_at lw_m7 32 rfl) rfl
set_option maxRecDepth 100000
theorem q1562 : (Jvm.Cond.selects "[J" ({ cls := "[J", name := "clone", desc := "()Ljava/lang/Object;" } : Jvm.MethodName) ({ cls := "java/lang/Object", name := "clone", desc := "()Ljava/lang/Object;" } : Jvm.MethodName)) ∈ lw_all := lw_g (lw_at lw_m7 35 rfl) rfl
theorem q1563 : (Jvm.Cond.castable "[J" "java/lang/Cloneable") ∈ lw_tbl := lw_at lw_m7 36 rfl
theorem q2924 : (Jvm.Cond.castable "[J" "java/lang/Object") ∈ lw_tbl := lw_at lw_m12 197 rfl
theorem q2918 : (Jvm.Cond.sameMethod "[Ljava/lang/Object;" "java/lang/Object" "getClass" "()Ljava/lang/Class;") ∈ lw_all := lw_g (lw_at lw_m12 191 rfl) rfl
set_option maxRecDepth 100000
theorem q2919 : (Jvm.Cond.selects "[Ljava/lang/Object;" ({ cls := "java/lang/Object", name := "getClass", desc := "()Ljava/lang/Class;" } : Jvm.MethodName) ({ cls := "java/lang/Object", name := "getClass", desc := "()Ljava/lang/Class;" } : Jvm.MethodName)) ∈ lw_all := lw_g (lw_at lw_m12 192 rfl) rfl
theorem q2921 : (Jvm.Cond.castable "[Ljava/lang/Object;" "java/lang/Object") ∈ lw_tbl := lw_at lw_m12 194 rfl
theorem q2926 : (Jvm.Cond.castable "[Ljava/lang/String;" "java/lang/Object") ∈ lw_tbl := lw_at lw_m12 199 rfl
set_option maxRecDepth 100000
theorem q2925 : (Jvm.Cond.castable "[Ljava/util/HashMap$Node;" "java/lang/Object") ∈ lw_tbl := lw_at lw_m12 198 rfl
set_option maxRecDepth 100000
theorem q1172 : (Jvm.Cond.interfaceMethod "java/lang/Comparable" "java/lang/Comparable" "compareTo" "(Ljava/lang/Object;)I") ∈ lw_tbl := lw_at lw_m5 125 rfl
set_option maxRecDepth 100000
theorem q1173 : (Jvm.Cond.declares ({ cls := "java/lang/Comparable", name := "compareTo", desc := "(Ljava/lang/Object;)I" } : Jvm.MethodName)) ∈ lw_tbl := lw_at lw_m5 126 rfl
theorem q132 : (Jvm.Cond.initialized "java/lang/Integer$IntegerCache") ∈ lw_all := lw_g (lw_at lw_m1 45 rfl) rfl
set_option maxRecDepth 100000
theorem q1627 : (Jvm.Cond.laysStatic "java/lang/Integer$IntegerCache" "high" "I") ∈ lw_tbl := lw_at lw_m7 100 rfl
theorem q1629 : (Jvm.Cond.laysStatic "java/lang/Integer$IntegerCache" "cache" "[Ljava/lang/Integer;") ∈ lw_tbl := lw_at lw_m7 102 rfl
theorem q104 : (Jvm.Cond.initialized "java/lang/System") ∈ lw_all := lw_g (lw_at lw_m1 17 rfl) rfl
set_option maxRecDepth 100000
theorem q496 : (Jvm.Cond.static ({ cls := "java/lang/System", name := "arraycopy", desc := "(Ljava/lang/Object;ILjava/lang/Object;II)V" } : Jvm.MethodName)) ∈ lw_all := lw_g (lw_at lw_m2 169 rfl) rfl
theorem q497 : (Jvm.Cond.native ({ cls := "java/lang/System", name := "arraycopy", desc := "(Ljava/lang/Object;ILjava/lang/Object;II)V" } : Jvm.MethodName)) ∈ lw_all := lw_g (lw_at lw_m2 170 rfl) rfl
theorem q340 : (Jvm.Cond.interfaceMethod "java/util/Iterator" "java/util/Iterator" "hasNext" "()Z") ∈ lw_tbl := lw_at lw_m2 13 rfl
set_option maxRecDepth 100000
theorem q341 : (Jvm.Cond.declares ({ cls := "java/util/Iterator", name := "hasNext", desc := "()Z" } : Jvm.MethodName)) ∈ lw_tbl := lw_at lw_m2 14 rfl
theorem q362 : (Jvm.Cond.interfaceMethod "java/util/Iterator" "java/util/Iterator" "next" "()Ljava/lang/Object;") ∈ lw_tbl := lw_at lw_m2 35 rfl
theorem q363 : (Jvm.Cond.declares ({ cls := "java/util/Iterator", name := "next", desc := "()Ljava/lang/Object;" } : Jvm.MethodName)) ∈ lw_tbl := lw_at lw_m2 36 rfl
theorem q1871 : (Jvm.Cond.interfaceMethod "java/util/Set" "java/util/Set" "iterator" "()Ljava/util/Iterator;") ∈ lw_tbl := lw_at lw_m8 104 rfl
set_option maxRecDepth 100000
theorem q1872 : (Jvm.Cond.declares ({ cls := "java/util/Set", name := "iterator", desc := "()Ljava/util/Iterator;" } : Jvm.MethodName)) ∈ lw_tbl := lw_at lw_m8 105 rfl
theorem q1027 : (Jvm.Cond.interfaceMethod "jdk/internal/access/JavaLangAccess" "jdk/internal/access/JavaLangAccess" "getUTF16Char" "([BI)C") ∈ lw_tbl := lw_at lw_m4 220 rfl
set_option maxRecDepth 100000
theorem q1028 : (Jvm.Cond.declares ({ cls := "jdk/internal/access/JavaLangAccess", name := "getUTF16Char", desc := "([BI)C" } : Jvm.MethodName)) ∈ lw_tbl := lw_at lw_m4 221 rfl
theorem q129 : (Jvm.Cond.initialized "jdk/internal/misc/UnsafeConstants") ∈ lw_all := lw_g (lw_at lw_m1 42 rfl) rfl
set_option maxRecDepth 100000
theorem q1250 : (Jvm.Cond.laysStatic "jdk/internal/misc/UnsafeConstants" "BIG_ENDIAN" "Z") ∈ lw_tbl := lw_at lw_m5 203 rfl
theorem q168 : (Jvm.Cond.arrayOver (Jvm.ClassFile.FieldType.object "java/lang/Object")) ∈ lw_tbl := lw_at lw_m1 81 rfl
set_option maxRecDepth 100000
theorem q219 : (Jvm.Cond.arrayClass Jvm.ClassFile.FieldType.int) ∈ lw_all := lw_g (lw_at lw_m1 132 rfl) rfl
theorem q273 : (Jvm.Cond.arrayClass Jvm.ClassFile.FieldType.byte) ∈ lw_all := lw_g (lw_at lw_m1 186 rfl) rfl
theorem q772 : (Jvm.Cond.arrayClass Jvm.ClassFile.FieldType.long) ∈ lw_all := lw_g (lw_at lw_m3 205 rfl) rfl
theorem q1084 : (Jvm.Cond.arrayOver (Jvm.ClassFile.FieldType.object "java/util/HashMap$Node")) ∈ lw_tbl := lw_at lw_m5 37 rfl
theorem q2067 : (Jvm.Cond.arrayOver (Jvm.ClassFile.FieldType.object "java/lang/String")) ∈ lw_tbl := lw_at lw_m9 60 rfl
theorem q2927 : (Jvm.Cond.arrayClass Jvm.ClassFile.FieldType.char) ∈ lw_all := lw_g (lw_at lw_m12 200 rfl) rfl
theorem q2928 : (Jvm.Cond.arrayClass Jvm.ClassFile.FieldType.short) ∈ lw_all := lw_g (lw_at lw_m12 201 rfl) rfl
/-! the law's own entry -/
set_option maxRecDepth 100000
abbrev cL_law : ByteArray := code
def dkwL_law_40 : List UInt8 := [4, 172]
abbrev dktL_law_40 : List UInt8 := dkwL_law_40 ++ []
def dkwL_law_39 : List UInt8 := [159, 0, 18, 3, 172, 43, 182, 0, 141, 44, 182, 0, 144, 159, 0, 5, 3, 172, 132, 3, 5, 167, 252, 0]
abbrev dktL_law_39 : List UInt8 := dkwL_law_39 ++ dktL_law_40
def dkwL_law_38 : List UInt8 := [167, 0, 42, 43, 182, 0, 133, 44, 182, 0, 136, 159, 0, 31, 3, 172, 43, 182, 0, 137, 44, 182, 0, 140]
abbrev dktL_law_38 : List UInt8 := dkwL_law_38 ++ dktL_law_39
def dkwL_law_37 : List UInt8 := [24, 6, 151, 153, 0, 21, 24, 4, 24, 4, 151, 153, 0, 11, 24, 6, 24, 6, 151, 154, 0, 5, 3, 172]
abbrev dktL_law_37 : List UInt8 := dkwL_law_37 ++ dktL_law_38
def dkwL_law_36 : List UInt8 := [154, 0, 5, 3, 172, 167, 0, 85, 43, 182, 0, 128, 141, 57, 4, 44, 182, 0, 132, 141, 57, 6, 24, 4]
abbrev dktL_law_36 : List UInt8 := dkwL_law_36 ++ dktL_law_37
def dkwL_law_35 : List UInt8 := [57, 6, 24, 4, 24, 6, 151, 153, 0, 21, 24, 4, 24, 4, 151, 153, 0, 11, 24, 6, 24, 6, 151]
abbrev dktL_law_35 : List UInt8 := dkwL_law_35 ++ dktL_law_36
def dkwL_law_34 : List UInt8 := [43, 182, 0, 119, 44, 182, 0, 122, 159, 0, 128, 3, 172, 43, 182, 0, 123, 57, 4, 44, 182, 0, 127]
abbrev dktL_law_34 : List UInt8 := dkwL_law_34 ++ dktL_law_35
def dkwL_law_33 : List UInt8 := [172, 43, 42, 29, 4, 96, 46, 182, 0, 115, 44, 42, 29, 4, 96, 46, 182, 0, 118, 159, 0, 141, 3, 172]
abbrev dktL_law_33 : List UInt8 := dkwL_law_33 ++ dktL_law_34
def dkwL_law_32 : List UInt8 := [182, 0, 110, 44, 42, 29, 4, 96, 46, 153, 0, 7, 4, 167, 0, 4, 3, 182, 0, 114, 159, 0, 164, 3]
abbrev dktL_law_32 : List UInt8 := dkwL_law_32 ++ dktL_law_33
def dkwL_law_31 : List UInt8 := [182, 0, 109, 159, 0, 203, 3, 172, 43, 42, 29, 4, 96, 46, 153, 0, 7, 4, 167, 0, 4, 3]
abbrev dktL_law_31 : List UInt8 := dkwL_law_31 ++ dktL_law_32
def dkwL_law_30 : List UInt8 := [182, 0, 105, 159, 0, 226, 3, 172, 43, 42, 29, 4, 96, 46, 182, 0, 106, 44, 42, 29, 4, 96, 46]
abbrev dktL_law_30 : List UInt8 := dkwL_law_30 ++ dktL_law_31
def dkwL_law_29 : List UInt8 := [182, 0, 101, 159, 0, 249, 3, 172, 43, 42, 29, 4, 96, 46, 182, 0, 102, 44, 42, 29, 4, 96, 46]
abbrev dktL_law_29 : List UInt8 := dkwL_law_29 ++ dktL_law_30
def dkwL_law_28 : List UInt8 := [182, 0, 97, 159, 1, 16, 3, 172, 43, 42, 29, 4, 96, 46, 182, 0, 98, 44, 42, 29, 4, 96, 46]
abbrev dktL_law_28 : List UInt8 := dkwL_law_28 ++ dktL_law_29
def dkwL_law_27 : List UInt8 := [46, 182, 0, 90, 44, 42, 29, 4, 96, 46, 182, 0, 93, 159, 1, 29, 3, 172, 43, 182, 0, 94, 44]
abbrev dktL_law_27 : List UInt8 := dkwL_law_27 ++ dktL_law_28
def dkwL_law_26 : List UInt8 := [96, 46, 182, 0, 86, 44, 42, 29, 4, 96, 46, 182, 0, 89, 159, 1, 52, 3, 172, 43, 42, 29, 4, 96]
abbrev dktL_law_26 : List UInt8 := dkwL_law_26 ++ dktL_law_27
def dkwL_law_25 : List UInt8 := [4, 96, 46, 182, 0, 82, 44, 42, 29, 4, 96, 46, 182, 0, 85, 159, 1, 75, 3, 172, 43, 42, 29, 4]
abbrev dktL_law_25 : List UInt8 := dkwL_law_25 ++ dktL_law_26
def dkwL_law_24 : List UInt8 := [182, 0, 76, 159, 1, 111, 3, 172, 43, 182, 0, 77, 44, 182, 0, 81, 159, 1, 98, 3, 172, 43, 42, 29]
abbrev dktL_law_24 : List UInt8 := dkwL_law_24 ++ dktL_law_25
def dkwL_law_23 : List UInt8 := [42, 29, 6, 96, 46, 182, 0, 73, 44, 42, 29, 4, 96, 46, 42, 29, 5, 96, 46, 42, 29, 6, 96, 46]
abbrev dktL_law_23 : List UInt8 := dkwL_law_23 ++ dktL_law_24
def dkwL_law_22 : List UInt8 := [42, 29, 7, 96, 46, 182, 0, 72, 159, 1, 154, 3, 172, 43, 42, 29, 4, 96, 46, 42, 29, 5, 96, 46]
abbrev dktL_law_22 : List UInt8 := dkwL_law_22 ++ dktL_law_23
def dkwL_law_21 : List UInt8 := [42, 29, 7, 96, 46, 182, 0, 69, 44, 42, 29, 4, 96, 46, 42, 29, 5, 96, 46, 42, 29, 6, 96, 46]
abbrev dktL_law_21 : List UInt8 := dkwL_law_21 ++ dktL_law_22
def dkwL_law_20 : List UInt8 := [182, 0, 68, 159, 1, 207, 3, 172, 43, 42, 29, 4, 96, 46, 42, 29, 5, 96, 46, 42, 29, 6, 96, 46]
abbrev dktL_law_20 : List UInt8 := dkwL_law_20 ++ dktL_law_21
def dkwL_law_19 : List UInt8 := [29, 6, 96, 46, 182, 0, 65, 44, 42, 29, 4, 96, 46, 42, 29, 5, 96, 46, 42, 29, 6, 96, 46]
abbrev dktL_law_19 : List UInt8 := dkwL_law_19 ++ dktL_law_20
def dkwL_law_18 : List UInt8 := [29, 6, 96, 46, 182, 0, 64, 159, 1, 250, 3, 172, 43, 42, 29, 4, 96, 46, 42, 29, 5, 96, 46, 42]
abbrev dktL_law_18 : List UInt8 := dkwL_law_18 ++ dktL_law_19
def dkwL_law_17 : List UInt8 := [29, 5, 96, 46, 42, 29, 6, 96, 46, 182, 0, 60, 44, 42, 29, 4, 96, 46, 42, 29, 5, 96, 46, 42]
abbrev dktL_law_17 : List UInt8 := dkwL_law_17 ++ dktL_law_18
def dkwL_law_16 : List UInt8 := [182, 0, 56, 44, 42, 29, 4, 96, 46, 182, 0, 59, 159, 2, 37, 3, 172, 43, 42, 29, 4, 96, 46, 42]
abbrev dktL_law_16 : List UInt8 := dkwL_law_16 ++ dktL_law_17
def dkwL_law_15 : List UInt8 := [182, 0, 52, 44, 42, 29, 4, 96, 46, 182, 0, 55, 159, 2, 60, 3, 172, 43, 42, 29, 4, 96, 46]
abbrev dktL_law_15 : List UInt8 := dkwL_law_15 ++ dktL_law_16
def dkwL_law_14 : List UInt8 := [182, 0, 48, 44, 42, 29, 4, 96, 46, 182, 0, 51, 159, 2, 83, 3, 172, 43, 42, 29, 4, 96, 46]
abbrev dktL_law_14 : List UInt8 := dkwL_law_14 ++ dktL_law_15
def dkwL_law_13 : List UInt8 := [182, 0, 44, 44, 42, 29, 4, 96, 46, 182, 0, 47, 159, 2, 106, 3, 172, 43, 42, 29, 4, 96, 46]
abbrev dktL_law_13 : List UInt8 := dkwL_law_13 ++ dktL_law_14
def dkwL_law_12 : List UInt8 := [182, 0, 40, 44, 42, 29, 4, 96, 46, 182, 0, 43, 159, 2, 129, 3, 172, 43, 42, 29, 4, 96, 46]
abbrev dktL_law_12 : List UInt8 := dkwL_law_12 ++ dktL_law_13
def dkwL_law_11 : List UInt8 := [29, 4, 96, 46, 42, 29, 5, 96, 46, 182, 0, 39, 159, 2, 152, 3, 172, 43, 42, 29, 4, 96, 46]
abbrev dktL_law_11 : List UInt8 := dkwL_law_11 ++ dktL_law_12
def dkwL_law_10 : List UInt8 := [182, 0, 35, 159, 2, 185, 3, 172, 43, 42, 29, 4, 96, 46, 42, 29, 5, 96, 46, 182, 0, 36, 44, 42]
abbrev dktL_law_10 : List UInt8 := dkwL_law_10 ++ dktL_law_11
def dkwL_law_9 : List UInt8 := [42, 29, 4, 96, 46, 42, 29, 5, 96, 46, 182, 0, 32, 44, 42, 29, 4, 96, 46, 42, 29, 5, 96, 46]
abbrev dktL_law_9 : List UInt8 := dkwL_law_9 ++ dktL_law_10
def dkwL_law_8 : List UInt8 := [46, 182, 0, 28, 44, 42, 29, 4, 96, 46, 42, 29, 5, 96, 46, 182, 0, 31, 159, 2, 218, 3, 172, 43]
abbrev dktL_law_8 : List UInt8 := dkwL_law_8 ++ dktL_law_9
def dkwL_law_7 : List UInt8 := [46, 42, 29, 5, 96, 46, 182, 0, 27, 159, 2, 251, 3, 172, 43, 42, 29, 4, 96, 46, 42, 29, 5, 96]
abbrev dktL_law_7 : List UInt8 := dkwL_law_7 ++ dktL_law_8
def dkwL_law_6 : List UInt8 := [159, 3, 28, 3, 172, 43, 42, 29, 4, 96, 46, 42, 29, 5, 96, 46, 182, 0, 23, 44, 42, 29, 4, 96]
abbrev dktL_law_6 : List UInt8 := dkwL_law_6 ++ dktL_law_7
def dkwL_law_5 : List UInt8 := [42, 29, 4, 96, 46, 42, 29, 5, 96, 46, 42, 29, 6, 96, 46, 42, 29, 7, 96, 46, 182, 0, 22]
abbrev dktL_law_5 : List UInt8 := dkwL_law_5 ++ dktL_law_6
def dkwL_law_4 : List UInt8 := [42, 29, 4, 96, 46, 42, 29, 5, 96, 46, 42, 29, 6, 96, 46, 42, 29, 7, 96, 46, 182, 0, 18, 44]
abbrev dktL_law_4 : List UInt8 := dkwL_law_4 ++ dktL_law_5
def dkwL_law_3 : List UInt8 := [43, 42, 29, 4, 96, 46, 182, 0, 13, 44, 42, 29, 4, 96, 46, 182, 0, 17, 159, 3, 81, 3, 172, 43]
abbrev dktL_law_3 : List UInt8 := dkwL_law_3 ++ dktL_law_4
def dkwL_law_2 : List UInt8 := [170, 0, 0, 0, 0, 0, 3, 239, 0, 0, 0, 0, 0, 0, 0, 30, 0, 0, 0, 140, 0, 0, 0, 163, 0, 0, 0, 216, 0, 0, 0, 249, 0, 0, 1, 26, 0, 0, 1, 59, 0, 0, 1, 92, 0, 0, 1, 115, 0, 0, 1, 138, 0, 0, 1, 161, 0, 0, 1, 184, 0, 0, 1, 207, 0, 0, 1, 250, 0, 0, 2, 37, 0, 0, 2, 90, 0, 0, 2, 133, 0, 0, 2, 146, 0, 0, 2, 169, 0, 0, 2, 192, 0, 0, 2, 215, 0, 0, 2, 228, 0, 0, 2, 251, 0, 0, 3, 18, 0, 0, 3, 41, 0, 0, 3, 80, 0, 0, 3, 103, 0, 0, 3, 116, 0, 0, 3, 157, 0, 0, 3, 200, 0, 0, 3, 213, 0, 0, 3, 226]
abbrev dktL_law_2 : List UInt8 := dkwL_law_2 ++ dktL_law_3
def dkwL_law_1 : List UInt8 := [163, 3, 254, 42, 29, 46, 16, 31, 126]
abbrev dktL_law_1 : List UInt8 := dkwL_law_1 ++ dktL_law_2
def dkwL_law_0 : List UInt8 := [187, 0, 7, 89, 183, 0, 9, 76, 187, 0, 10, 89, 183, 0, 12, 77, 3, 62, 29, 42, 190, 8, 100]
abbrev dktL_law_0 : List UInt8 := dkwL_law_0 ++ dktL_law_1
theorem dksL_law_0 : cL_law.data.toList.drop 0 = dktL_law_0 := by decide +kernel
theorem dksL_law_1 : cL_law.data.toList.drop 23 = dktL_law_1 := dk_seg dksL_law_0 23 rfl rfl
theorem dksL_law_2 : cL_law.data.toList.drop 32 = dktL_law_2 := dk_seg dksL_law_1 9 rfl rfl
theorem dksL_law_3 : cL_law.data.toList.drop 172 = dktL_law_3 := dk_seg dksL_law_2 140 rfl rfl
theorem dksL_law_4 : cL_law.data.toList.drop 196 = dktL_law_4 := dk_seg dksL_law_3 24 rfl rfl
theorem dksL_law_5 : cL_law.data.toList.drop 220 = dktL_law_5 := dk_seg dksL_law_4 24 rfl rfl
theorem dksL_law_6 : cL_law.data.toList.drop 243 = dktL_law_6 := dk_seg dksL_law_5 23 rfl rfl
theorem dksL_law_7 : cL_law.data.toList.drop 267 = dktL_law_7 := dk_seg dksL_law_6 24 rfl rfl
theorem dksL_law_8 : cL_law.data.toList.drop 291 = dktL_law_8 := dk_seg dksL_law_7 24 rfl rfl
theorem dksL_law_9 : cL_law.data.toList.drop 315 = dktL_law_9 := dk_seg dksL_law_8 24 rfl rfl
theorem dksL_law_10 : cL_law.data.toList.drop 339 = dktL_law_10 := dk_seg dksL_law_9 24 rfl rfl
theorem dksL_law_11 : cL_law.data.toList.drop 363 = dktL_law_11 := dk_seg dksL_law_10 24 rfl rfl
theorem dksL_law_12 : cL_law.data.toList.drop 386 = dktL_law_12 := dk_seg dksL_law_11 23 rfl rfl
theorem dksL_law_13 : cL_law.data.toList.drop 409 = dktL_law_13 := dk_seg dksL_law_12 23 rfl rfl
theorem dksL_law_14 : cL_law.data.toList.drop 432 = dktL_law_14 := dk_seg dksL_law_13 23 rfl rfl
theorem dksL_law_15 : cL_law.data.toList.drop 455 = dktL_law_15 := dk_seg dksL_law_14 23 rfl rfl
theorem dksL_law_16 : cL_law.data.toList.drop 478 = dktL_law_16 := dk_seg dksL_law_15 23 rfl rfl
theorem dksL_law_17 : cL_law.data.toList.drop 502 = dktL_law_17 := dk_seg dksL_law_16 24 rfl rfl
theorem dksL_law_18 : cL_law.data.toList.drop 526 = dktL_law_18 := dk_seg dksL_law_17 24 rfl rfl
theorem dksL_law_19 : cL_law.data.toList.drop 550 = dktL_law_19 := dk_seg dksL_law_18 24 rfl rfl
theorem dksL_law_20 : cL_law.data.toList.drop 573 = dktL_law_20 := dk_seg dksL_law_19 23 rfl rfl
theorem dksL_law_21 : cL_law.data.toList.drop 597 = dktL_law_21 := dk_seg dksL_law_20 24 rfl rfl
theorem dksL_law_22 : cL_law.data.toList.drop 621 = dktL_law_22 := dk_seg dksL_law_21 24 rfl rfl
theorem dksL_law_23 : cL_law.data.toList.drop 645 = dktL_law_23 := dk_seg dksL_law_22 24 rfl rfl
theorem dksL_law_24 : cL_law.data.toList.drop 669 = dktL_law_24 := dk_seg dksL_law_23 24 rfl rfl
theorem dksL_law_25 : cL_law.data.toList.drop 693 = dktL_law_25 := dk_seg dksL_law_24 24 rfl rfl
theorem dksL_law_26 : cL_law.data.toList.drop 717 = dktL_law_26 := dk_seg dksL_law_25 24 rfl rfl
theorem dksL_law_27 : cL_law.data.toList.drop 741 = dktL_law_27 := dk_seg dksL_law_26 24 rfl rfl
theorem dksL_law_28 : cL_law.data.toList.drop 764 = dktL_law_28 := dk_seg dksL_law_27 23 rfl rfl
theorem dksL_law_29 : cL_law.data.toList.drop 787 = dktL_law_29 := dk_seg dksL_law_28 23 rfl rfl
theorem dksL_law_30 : cL_law.data.toList.drop 810 = dktL_law_30 := dk_seg dksL_law_29 23 rfl rfl
theorem dksL_law_31 : cL_law.data.toList.drop 833 = dktL_law_31 := dk_seg dksL_law_30 23 rfl rfl
theorem dksL_law_32 : cL_law.data.toList.drop 855 = dktL_law_32 := dk_seg dksL_law_31 22 rfl rfl
theorem dksL_law_33 : cL_law.data.toList.drop 879 = dktL_law_33 := dk_seg dksL_law_32 24 rfl rfl
theorem dksL_law_34 : cL_law.data.toList.drop 903 = dktL_law_34 := dk_seg dksL_law_33 24 rfl rfl
theorem dksL_law_35 : cL_law.data.toList.drop 926 = dktL_law_35 := dk_seg dksL_law_34 23 rfl rfl
theorem dksL_law_36 : cL_law.data.toList.drop 949 = dktL_law_36 := dk_seg dksL_law_35 23 rfl rfl
theorem dksL_law_37 : cL_law.data.toList.drop 973 = dktL_law_37 := dk_seg dksL_law_36 24 rfl rfl
theorem dksL_law_38 : cL_law.data.toList.drop 997 = dktL_law_38 := dk_seg dksL_law_37 24 rfl rfl
theorem dksL_law_39 : cL_law.data.toList.drop 1021 = dktL_law_39 := dk_seg dksL_law_38 24 rfl rfl
theorem dksL_law_40 : cL_law.data.toList.drop 1045 = dktL_law_40 := dk_seg dksL_law_39 24 rfl rfl
theorem dL_law_0 : decode cL_law 0 = .ok (.new 7, 3) := dk_187 0 7 (dk_at dksL_law_0 0 rfl rfl)
theorem dL_law_3 : decode cL_law 3 = .ok (.dup, 1) := dk_89 (dk_at dksL_law_0 3 rfl rfl)
theorem dL_law_4 : decode cL_law 4 = .ok (.invokespecial 9, 3) := dk_183 0 9 (dk_at dksL_law_0 4 rfl rfl)
theorem dL_law_7 : decode cL_law 7 = .ok (.astore_n 1, 1) := dk_76 (dk_at dksL_law_0 7 rfl rfl)
theorem dL_law_8 : decode cL_law 8 = .ok (.new 10, 3) := dk_187 0 10 (dk_at dksL_law_0 8 rfl rfl)
theorem dL_law_11 : decode cL_law 11 = .ok (.dup, 1) := dk_89 (dk_at dksL_law_0 11 rfl rfl)
theorem dL_law_12 : decode cL_law 12 = .ok (.invokespecial 12, 3) := dk_183 0 12 (dk_at dksL_law_0 12 rfl rfl)
theorem dL_law_15 : decode cL_law 15 = .ok (.astore_n 2, 1) := dk_77 (dk_at dksL_law_0 15 rfl rfl)
theorem dL_law_16 : decode cL_law 16 = .ok (.iconst 0, 1) := dk_3 (dk_at dksL_law_0 16 rfl rfl)
theorem dL_law_17 : decode cL_law 17 = .ok (.istore_n 3, 1) := dk_62 (dk_at dksL_law_0 17 rfl rfl)
theorem dL_law_18 : decode cL_law 18 = .ok (.iload_n 3, 1) := dk_29 (dk_at dksL_law_0 18 rfl rfl)
theorem dL_law_19 : decode cL_law 19 = .ok (.aload_n 0, 1) := dk_42 (dk_at dksL_law_0 19 rfl rfl)
theorem dL_law_20 : decode cL_law 20 = .ok (.arraylength, 1) := dk_190 (dk_at dksL_law_0 20 rfl rfl)
theorem dL_law_21 : decode cL_law 21 = .ok (.iconst 5, 1) := dk_8 (dk_at dksL_law_0 21 rfl rfl)
theorem dL_law_22 : decode cL_law 22 = .ok (.isub, 1) := dk_100 (dk_at dksL_law_0 22 rfl rfl)
theorem dL_law_23 : decode cL_law 23 = .ok (.if_icmp .gt 1022, 3) := dk_163 3 254 (dk_at dksL_law_1 0 rfl rfl)
theorem dL_law_26 : decode cL_law 26 = .ok (.aload_n 0, 1) := dk_42 (dk_at dksL_law_1 3 rfl rfl)
theorem dL_law_27 : decode cL_law 27 = .ok (.iload_n 3, 1) := dk_29 (dk_at dksL_law_1 4 rfl rfl)
theorem dL_law_28 : decode cL_law 28 = .ok (.iaload, 1) := dk_46 (dk_at dksL_law_1 5 rfl rfl)
theorem dL_law_29 : decode cL_law 29 = .ok (.bipush 31, 2) := dk_16 31 (dk_at dksL_law_1 6 rfl rfl)
theorem dL_law_31 : decode cL_law 31 = .ok (.iand, 1) := dk_126 (dk_at dksL_law_1 8 rfl rfl)
theorem dL_law_32 : decode cL_law 32 = .ok (.tableswitch 1007 0 30 #[140, 163, 216, 249, 282, 315, 348, 371, 394, 417, 440, 463, 506, 549, 602, 645, 658, 681, 704, 727, 740, 763, 786, 809, 848, 871, 884, 925, 968, 981, 994], 140) := by decide +kernel
theorem dL_law_172 : decode cL_law 172 = .ok (.aload_n 1, 1) := dk_43 (dk_at dksL_law_3 0 rfl rfl)
theorem dL_law_173 : decode cL_law 173 = .ok (.aload_n 0, 1) := dk_42 (dk_at dksL_law_3 1 rfl rfl)
theorem dL_law_174 : decode cL_law 174 = .ok (.iload_n 3, 1) := dk_29 (dk_at dksL_law_3 2 rfl rfl)
theorem dL_law_175 : decode cL_law 175 = .ok (.iconst 1, 1) := dk_4 (dk_at dksL_law_3 3 rfl rfl)
theorem dL_law_176 : decode cL_law 176 = .ok (.iadd, 1) := dk_96 (dk_at dksL_law_3 4 rfl rfl)
theorem dL_law_177 : decode cL_law 177 = .ok (.iaload, 1) := dk_46 (dk_at dksL_law_3 5 rfl rfl)
theorem dL_law_178 : decode cL_law 178 = .ok (.invokevirtual 13, 3) := dk_182 0 13 (dk_at dksL_law_3 6 rfl rfl)
theorem dL_law_181 : decode cL_law 181 = .ok (.aload_n 2, 1) := dk_44 (dk_at dksL_law_3 9 rfl rfl)
theorem dL_law_182 : decode cL_law 182 = .ok (.aload_n 0, 1) := dk_42 (dk_at dksL_law_3 10 rfl rfl)
theorem dL_law_183 : decode cL_law 183 = .ok (.iload_n 3, 1) := dk_29 (dk_at dksL_law_3 11 rfl rfl)
theorem dL_law_184 : decode cL_law 184 = .ok (.iconst 1, 1) := dk_4 (dk_at dksL_law_3 12 rfl rfl)
theorem dL_law_185 : decode cL_law 185 = .ok (.iadd, 1) := dk_96 (dk_at dksL_law_3 13 rfl rfl)
theorem dL_law_186 : decode cL_law 186 = .ok (.iaload, 1) := dk_46 (dk_at dksL_law_3 14 rfl rfl)
theorem dL_law_187 : decode cL_law 187 = .ok (.invokevirtual 17, 3) := dk_182 0 17 (dk_at dksL_law_3 15 rfl rfl)
theorem dL_law_190 : decode cL_law 190 = .ok (.if_icmp .eq 849, 3) := dk_159 3 81 (dk_at dksL_law_3 18 rfl rfl)
theorem dL_law_193 : decode cL_law 193 = .ok (.iconst 0, 1) := dk_3 (dk_at dksL_law_3 21 rfl rfl)
theorem dL_law_194 : decode cL_law 194 = .ok (.ireturn, 1) := dk_172 (dk_at dksL_law_3 22 rfl rfl)
theorem dL_law_195 : decode cL_law 195 = .ok (.aload_n 1, 1) := dk_43 (dk_at dksL_law_3 23 rfl rfl)
theorem dL_law_196 : decode cL_law 196 = .ok (.aload_n 0, 1) := dk_42 (dk_at dksL_law_4 0 rfl rfl)
theorem dL_law_197 : decode cL_law 197 = .ok (.iload_n 3, 1) := dk_29 (dk_at dksL_law_4 1 rfl rfl)
theorem dL_law_198 : decode cL_law 198 = .ok (.iconst 1, 1) := dk_4 (dk_at dksL_law_4 2 rfl rfl)
theorem dL_law_199 : decode cL_law 199 = .ok (.iadd, 1) := dk_96 (dk_at dksL_law_4 3 rfl rfl)
theorem dL_law_200 : decode cL_law 200 = .ok (.iaload, 1) := dk_46 (dk_at dksL_law_4 4 rfl rfl)
theorem dL_law_201 : decode cL_law 201 = .ok (.aload_n 0, 1) := dk_42 (dk_at dksL_law_4 5 rfl rfl)
theorem dL_law_202 : decode cL_law 202 = .ok (.iload_n 3, 1) := dk_29 (dk_at dksL_law_4 6 rfl rfl)
theorem dL_law_203 : decode cL_law 203 = .ok (.iconst 2, 1) := dk_5 (dk_at dksL_law_4 7 rfl rfl)
theorem dL_law_204 : decode cL_law 204 = .ok (.iadd, 1) := dk_96 (dk_at dksL_law_4 8 rfl rfl)
theorem dL_law_205 : decode cL_law 205 = .ok (.iaload, 1) := dk_46 (dk_at dksL_law_4 9 rfl rfl)
theorem dL_law_206 : decode cL_law 206 = .ok (.aload_n 0, 1) := dk_42 (dk_at dksL_law_4 10 rfl rfl)
theorem dL_law_207 : decode cL_law 207 = .ok (.iload_n 3, 1) := dk_29 (dk_at dksL_law_4 11 rfl rfl)
theorem dL_law_208 : decode cL_law 208 = .ok (.iconst 3, 1) := dk_6 (dk_at dksL_law_4 12 rfl rfl)
theorem dL_law_209 : decode cL_law 209 = .ok (.iadd, 1) := dk_96 (dk_at dksL_law_4 13 rfl rfl)
theorem dL_law_210 : decode cL_law 210 = .ok (.iaload, 1) := dk_46 (dk_at dksL_law_4 14 rfl rfl)
theorem dL_law_211 : decode cL_law 211 = .ok (.aload_n 0, 1) := dk_42 (dk_at dksL_law_4 15 rfl rfl)
theorem dL_law_212 : decode cL_law 212 = .ok (.iload_n 3, 1) := dk_29 (dk_at dksL_law_4 16 rfl rfl)
theorem dL_law_213 : decode cL_law 213 = .ok (.iconst 4, 1) := dk_7 (dk_at dksL_law_4 17 rfl rfl)
theorem dL_law_214 : decode cL_law 214 = .ok (.iadd, 1) := dk_96 (dk_at dksL_law_4 18 rfl rfl)
theorem dL_law_215 : decode cL_law 215 = .ok (.iaload, 1) := dk_46 (dk_at dksL_law_4 19 rfl rfl)
theorem dL_law_216 : decode cL_law 216 = .ok (.invokevirtual 18, 3) := dk_182 0 18 (dk_at dksL_law_4 20 rfl rfl)
theorem dL_law_219 : decode cL_law 219 = .ok (.aload_n 2, 1) := dk_44 (dk_at dksL_law_4 23 rfl rfl)
theorem dL_law_220 : decode cL_law 220 = .ok (.aload_n 0, 1) := dk_42 (dk_at dksL_law_5 0 rfl rfl)
theorem dL_law_221 : decode cL_law 221 = .ok (.iload_n 3, 1) := dk_29 (dk_at dksL_law_5 1 rfl rfl)
theorem dL_law_222 : decode cL_law 222 = .ok (.iconst 1, 1) := dk_4 (dk_at dksL_law_5 2 rfl rfl)
theorem dL_law_223 : decode cL_law 223 = .ok (.iadd, 1) := dk_96 (dk_at dksL_law_5 3 rfl rfl)
theorem dL_law_224 : decode cL_law 224 = .ok (.iaload, 1) := dk_46 (dk_at dksL_law_5 4 rfl rfl)
theorem dL_law_225 : decode cL_law 225 = .ok (.aload_n 0, 1) := dk_42 (dk_at dksL_law_5 5 rfl rfl)
theorem dL_law_226 : decode cL_law 226 = .ok (.iload_n 3, 1) := dk_29 (dk_at dksL_law_5 6 rfl rfl)
theorem dL_law_227 : decode cL_law 227 = .ok (.iconst 2, 1) := dk_5 (dk_at dksL_law_5 7 rfl rfl)
theorem dL_law_228 : decode cL_law 228 = .ok (.iadd, 1) := dk_96 (dk_at dksL_law_5 8 rfl rfl)
theorem dL_law_229 : decode cL_law 229 = .ok (.iaload, 1) := dk_46 (dk_at dksL_law_5 9 rfl rfl)
theorem dL_law_230 : decode cL_law 230 = .ok (.aload_n 0, 1) := dk_42 (dk_at dksL_law_5 10 rfl rfl)
theorem dL_law_231 : decode cL_law 231 = .ok (.iload_n 3, 1) := dk_29 (dk_at dksL_law_5 11 rfl rfl)
theorem dL_law_232 : decode cL_law 232 = .ok (.iconst 3, 1) := dk_6 (dk_at dksL_law_5 12 rfl rfl)
theorem dL_law_233 : decode cL_law 233 = .ok (.iadd, 1) := dk_96 (dk_at dksL_law_5 13 rfl rfl)
theorem dL_law_234 : decode cL_law 234 = .ok (.iaload, 1) := dk_46 (dk_at dksL_law_5 14 rfl rfl)
theorem dL_law_235 : decode cL_law 235 = .ok (.aload_n 0, 1) := dk_42 (dk_at dksL_law_5 15 rfl rfl)
theorem dL_law_236 : decode cL_law 236 = .ok (.iload_n 3, 1) := dk_29 (dk_at dksL_law_5 16 rfl rfl)
theorem dL_law_237 : decode cL_law 237 = .ok (.iconst 4, 1) := dk_7 (dk_at dksL_law_5 17 rfl rfl)
theorem dL_law_238 : decode cL_law 238 = .ok (.iadd, 1) := dk_96 (dk_at dksL_law_5 18 rfl rfl)
theorem dL_law_239 : decode cL_law 239 = .ok (.iaload, 1) := dk_46 (dk_at dksL_law_5 19 rfl rfl)
theorem dL_law_240 : decode cL_law 240 = .ok (.invokevirtual 22, 3) := dk_182 0 22 (dk_at dksL_law_5 20 rfl rfl)
theorem dL_law_243 : decode cL_law 243 = .ok (.if_icmp .eq 796, 3) := dk_159 3 28 (dk_at dksL_law_6 0 rfl rfl)
theorem dL_law_246 : decode cL_law 246 = .ok (.iconst 0, 1) := dk_3 (dk_at dksL_law_6 3 rfl rfl)
theorem dL_law_247 : decode cL_law 247 = .ok (.ireturn, 1) := dk_172 (dk_at dksL_law_6 4 rfl rfl)
theorem dL_law_248 : decode cL_law 248 = .ok (.aload_n 1, 1) := dk_43 (dk_at dksL_law_6 5 rfl rfl)
theorem dL_law_249 : decode cL_law 249 = .ok (.aload_n 0, 1) := dk_42 (dk_at dksL_law_6 6 rfl rfl)
theorem dL_law_250 : decode cL_law 250 = .ok (.iload_n 3, 1) := dk_29 (dk_at dksL_law_6 7 rfl rfl)
theorem dL_law_251 : decode cL_law 251 = .ok (.iconst 1, 1) := dk_4 (dk_at dksL_law_6 8 rfl rfl)
theorem dL_law_252 : decode cL_law 252 = .ok (.iadd, 1) := dk_96 (dk_at dksL_law_6 9 rfl rfl)
theorem dL_law_253 : decode cL_law 253 = .ok (.iaload, 1) := dk_46 (dk_at dksL_law_6 10 rfl rfl)
theorem dL_law_254 : decode cL_law 254 = .ok (.aload_n 0, 1) := dk_42 (dk_at dksL_law_6 11 rfl rfl)
theorem dL_law_255 : decode cL_law 255 = .ok (.iload_n 3, 1) := dk_29 (dk_at dksL_law_6 12 rfl rfl)
theorem dL_law_256 : decode cL_law 256 = .ok (.iconst 2, 1) := dk_5 (dk_at dksL_law_6 13 rfl rfl)
theorem dL_law_257 : decode cL_law 257 = .ok (.iadd, 1) := dk_96 (dk_at dksL_law_6 14 rfl rfl)
theorem dL_law_258 : decode cL_law 258 = .ok (.iaload, 1) := dk_46 (dk_at dksL_law_6 15 rfl rfl)
theorem dL_law_259 : decode cL_law 259 = .ok (.invokevirtual 23, 3) := dk_182 0 23 (dk_at dksL_law_6 16 rfl rfl)
theorem dL_law_262 : decode cL_law 262 = .ok (.aload_n 2, 1) := dk_44 (dk_at dksL_law_6 19 rfl rfl)
theorem dL_law_263 : decode cL_law 263 = .ok (.aload_n 0, 1) := dk_42 (dk_at dksL_law_6 20 rfl rfl)
theorem dL_law_264 : decode cL_law 264 = .ok (.iload_n 3, 1) := dk_29 (dk_at dksL_law_6 21 rfl rfl)
theorem dL_law_265 : decode cL_law 265 = .ok (.iconst 1, 1) := dk_4 (dk_at dksL_law_6 22 rfl rfl)
theorem dL_law_266 : decode cL_law 266 = .ok (.iadd, 1) := dk_96 (dk_at dksL_law_6 23 rfl rfl)
theorem dL_law_267 : decode cL_law 267 = .ok (.iaload, 1) := dk_46 (dk_at dksL_law_7 0 rfl rfl)
theorem dL_law_268 : decode cL_law 268 = .ok (.aload_n 0, 1) := dk_42 (dk_at dksL_law_7 1 rfl rfl)
theorem dL_law_269 : decode cL_law 269 = .ok (.iload_n 3, 1) := dk_29 (dk_at dksL_law_7 2 rfl rfl)
theorem dL_law_270 : decode cL_law 270 = .ok (.iconst 2, 1) := dk_5 (dk_at dksL_law_7 3 rfl rfl)
theorem dL_law_271 : decode cL_law 271 = .ok (.iadd, 1) := dk_96 (dk_at dksL_law_7 4 rfl rfl)
theorem dL_law_272 : decode cL_law 272 = .ok (.iaload, 1) := dk_46 (dk_at dksL_law_7 5 rfl rfl)
theorem dL_law_273 : decode cL_law 273 = .ok (.invokevirtual 27, 3) := dk_182 0 27 (dk_at dksL_law_7 6 rfl rfl)
theorem dL_law_276 : decode cL_law 276 = .ok (.if_icmp .eq 763, 3) := dk_159 2 251 (dk_at dksL_law_7 9 rfl rfl)
theorem dL_law_279 : decode cL_law 279 = .ok (.iconst 0, 1) := dk_3 (dk_at dksL_law_7 12 rfl rfl)
theorem dL_law_280 : decode cL_law 280 = .ok (.ireturn, 1) := dk_172 (dk_at dksL_law_7 13 rfl rfl)
theorem dL_law_281 : decode cL_law 281 = .ok (.aload_n 1, 1) := dk_43 (dk_at dksL_law_7 14 rfl rfl)
theorem dL_law_282 : decode cL_law 282 = .ok (.aload_n 0, 1) := dk_42 (dk_at dksL_law_7 15 rfl rfl)
theorem dL_law_283 : decode cL_law 283 = .ok (.iload_n 3, 1) := dk_29 (dk_at dksL_law_7 16 rfl rfl)
theorem dL_law_284 : decode cL_law 284 = .ok (.iconst 1, 1) := dk_4 (dk_at dksL_law_7 17 rfl rfl)
theorem dL_law_285 : decode cL_law 285 = .ok (.iadd, 1) := dk_96 (dk_at dksL_law_7 18 rfl rfl)
theorem dL_law_286 : decode cL_law 286 = .ok (.iaload, 1) := dk_46 (dk_at dksL_law_7 19 rfl rfl)
theorem dL_law_287 : decode cL_law 287 = .ok (.aload_n 0, 1) := dk_42 (dk_at dksL_law_7 20 rfl rfl)
theorem dL_law_288 : decode cL_law 288 = .ok (.iload_n 3, 1) := dk_29 (dk_at dksL_law_7 21 rfl rfl)
theorem dL_law_289 : decode cL_law 289 = .ok (.iconst 2, 1) := dk_5 (dk_at dksL_law_7 22 rfl rfl)
theorem dL_law_290 : decode cL_law 290 = .ok (.iadd, 1) := dk_96 (dk_at dksL_law_7 23 rfl rfl)
theorem dL_law_291 : decode cL_law 291 = .ok (.iaload, 1) := dk_46 (dk_at dksL_law_8 0 rfl rfl)
theorem dL_law_292 : decode cL_law 292 = .ok (.invokevirtual 28, 3) := dk_182 0 28 (dk_at dksL_law_8 1 rfl rfl)
theorem dL_law_295 : decode cL_law 295 = .ok (.aload_n 2, 1) := dk_44 (dk_at dksL_law_8 4 rfl rfl)
theorem dL_law_296 : decode cL_law 296 = .ok (.aload_n 0, 1) := dk_42 (dk_at dksL_law_8 5 rfl rfl)
theorem dL_law_297 : decode cL_law 297 = .ok (.iload_n 3, 1) := dk_29 (dk_at dksL_law_8 6 rfl rfl)
theorem dL_law_298 : decode cL_law 298 = .ok (.iconst 1, 1) := dk_4 (dk_at dksL_law_8 7 rfl rfl)
theorem dL_law_299 : decode cL_law 299 = .ok (.iadd, 1) := dk_96 (dk_at dksL_law_8 8 rfl rfl)
theorem dL_law_300 : decode cL_law 300 = .ok (.iaload, 1) := dk_46 (dk_at dksL_law_8 9 rfl rfl)
theorem dL_law_301 : decode cL_law 301 = .ok (.aload_n 0, 1) := dk_42 (dk_at dksL_law_8 10 rfl rfl)
theorem dL_law_302 : decode cL_law 302 = .ok (.iload_n 3, 1) := dk_29 (dk_at dksL_law_8 11 rfl rfl)
theorem dL_law_303 : decode cL_law 303 = .ok (.iconst 2, 1) := dk_5 (dk_at dksL_law_8 12 rfl rfl)
theorem dL_law_304 : decode cL_law 304 = .ok (.iadd, 1) := dk_96 (dk_at dksL_law_8 13 rfl rfl)
theorem dL_law_305 : decode cL_law 305 = .ok (.iaload, 1) := dk_46 (dk_at dksL_law_8 14 rfl rfl)
theorem dL_law_306 : decode cL_law 306 = .ok (.invokevirtual 31, 3) := dk_182 0 31 (dk_at dksL_law_8 15 rfl rfl)
theorem dL_law_309 : decode cL_law 309 = .ok (.if_icmp .eq 730, 3) := dk_159 2 218 (dk_at dksL_law_8 18 rfl rfl)
theorem dL_law_312 : decode cL_law 312 = .ok (.iconst 0, 1) := dk_3 (dk_at dksL_law_8 21 rfl rfl)
theorem dL_law_313 : decode cL_law 313 = .ok (.ireturn, 1) := dk_172 (dk_at dksL_law_8 22 rfl rfl)
theorem dL_law_314 : decode cL_law 314 = .ok (.aload_n 1, 1) := dk_43 (dk_at dksL_law_8 23 rfl rfl)
theorem dL_law_315 : decode cL_law 315 = .ok (.aload_n 0, 1) := dk_42 (dk_at dksL_law_9 0 rfl rfl)
theorem dL_law_316 : decode cL_law 316 = .ok (.iload_n 3, 1) := dk_29 (dk_at dksL_law_9 1 rfl rfl)
theorem dL_law_317 : decode cL_law 317 = .ok (.iconst 1, 1) := dk_4 (dk_at dksL_law_9 2 rfl rfl)
theorem dL_law_318 : decode cL_law 318 = .ok (.iadd, 1) := dk_96 (dk_at dksL_law_9 3 rfl rfl)
theorem dL_law_319 : decode cL_law 319 = .ok (.iaload, 1) := dk_46 (dk_at dksL_law_9 4 rfl rfl)
theorem dL_law_320 : decode cL_law 320 = .ok (.aload_n 0, 1) := dk_42 (dk_at dksL_law_9 5 rfl rfl)
theorem dL_law_321 : decode cL_law 321 = .ok (.iload_n 3, 1) := dk_29 (dk_at dksL_law_9 6 rfl rfl)
theorem dL_law_322 : decode cL_law 322 = .ok (.iconst 2, 1) := dk_5 (dk_at dksL_law_9 7 rfl rfl)
theorem dL_law_323 : decode cL_law 323 = .ok (.iadd, 1) := dk_96 (dk_at dksL_law_9 8 rfl rfl)
theorem dL_law_324 : decode cL_law 324 = .ok (.iaload, 1) := dk_46 (dk_at dksL_law_9 9 rfl rfl)
theorem dL_law_325 : decode cL_law 325 = .ok (.invokevirtual 32, 3) := dk_182 0 32 (dk_at dksL_law_9 10 rfl rfl)
theorem dL_law_328 : decode cL_law 328 = .ok (.aload_n 2, 1) := dk_44 (dk_at dksL_law_9 13 rfl rfl)
theorem dL_law_329 : decode cL_law 329 = .ok (.aload_n 0, 1) := dk_42 (dk_at dksL_law_9 14 rfl rfl)
theorem dL_law_330 : decode cL_law 330 = .ok (.iload_n 3, 1) := dk_29 (dk_at dksL_law_9 15 rfl rfl)
theorem dL_law_331 : decode cL_law 331 = .ok (.iconst 1, 1) := dk_4 (dk_at dksL_law_9 16 rfl rfl)
theorem dL_law_332 : decode cL_law 332 = .ok (.iadd, 1) := dk_96 (dk_at dksL_law_9 17 rfl rfl)
theorem dL_law_333 : decode cL_law 333 = .ok (.iaload, 1) := dk_46 (dk_at dksL_law_9 18 rfl rfl)
theorem dL_law_334 : decode cL_law 334 = .ok (.aload_n 0, 1) := dk_42 (dk_at dksL_law_9 19 rfl rfl)
theorem dL_law_335 : decode cL_law 335 = .ok (.iload_n 3, 1) := dk_29 (dk_at dksL_law_9 20 rfl rfl)
theorem dL_law_336 : decode cL_law 336 = .ok (.iconst 2, 1) := dk_5 (dk_at dksL_law_9 21 rfl rfl)
theorem dL_law_337 : decode cL_law 337 = .ok (.iadd, 1) := dk_96 (dk_at dksL_law_9 22 rfl rfl)
theorem dL_law_338 : decode cL_law 338 = .ok (.iaload, 1) := dk_46 (dk_at dksL_law_9 23 rfl rfl)
theorem dL_law_339 : decode cL_law 339 = .ok (.invokevirtual 35, 3) := dk_182 0 35 (dk_at dksL_law_10 0 rfl rfl)
theorem dL_law_342 : decode cL_law 342 = .ok (.if_icmp .eq 697, 3) := dk_159 2 185 (dk_at dksL_law_10 3 rfl rfl)
theorem dL_law_345 : decode cL_law 345 = .ok (.iconst 0, 1) := dk_3 (dk_at dksL_law_10 6 rfl rfl)
theorem dL_law_346 : decode cL_law 346 = .ok (.ireturn, 1) := dk_172 (dk_at dksL_law_10 7 rfl rfl)
theorem dL_law_347 : decode cL_law 347 = .ok (.aload_n 1, 1) := dk_43 (dk_at dksL_law_10 8 rfl rfl)
theorem dL_law_348 : decode cL_law 348 = .ok (.aload_n 0, 1) := dk_42 (dk_at dksL_law_10 9 rfl rfl)
theorem dL_law_349 : decode cL_law 349 = .ok (.iload_n 3, 1) := dk_29 (dk_at dksL_law_10 10 rfl rfl)
theorem dL_law_350 : decode cL_law 350 = .ok (.iconst 1, 1) := dk_4 (dk_at dksL_law_10 11 rfl rfl)
theorem dL_law_351 : decode cL_law 351 = .ok (.iadd, 1) := dk_96 (dk_at dksL_law_10 12 rfl rfl)
theorem dL_law_352 : decode cL_law 352 = .ok (.iaload, 1) := dk_46 (dk_at dksL_law_10 13 rfl rfl)
theorem dL_law_353 : decode cL_law 353 = .ok (.aload_n 0, 1) := dk_42 (dk_at dksL_law_10 14 rfl rfl)
theorem dL_law_354 : decode cL_law 354 = .ok (.iload_n 3, 1) := dk_29 (dk_at dksL_law_10 15 rfl rfl)
theorem dL_law_355 : decode cL_law 355 = .ok (.iconst 2, 1) := dk_5 (dk_at dksL_law_10 16 rfl rfl)
theorem dL_law_356 : decode cL_law 356 = .ok (.iadd, 1) := dk_96 (dk_at dksL_law_10 17 rfl rfl)
theorem dL_law_357 : decode cL_law 357 = .ok (.iaload, 1) := dk_46 (dk_at dksL_law_10 18 rfl rfl)
theorem dL_law_358 : decode cL_law 358 = .ok (.invokevirtual 36, 3) := dk_182 0 36 (dk_at dksL_law_10 19 rfl rfl)
theorem dL_law_361 : decode cL_law 361 = .ok (.aload_n 2, 1) := dk_44 (dk_at dksL_law_10 22 rfl rfl)
theorem dL_law_362 : decode cL_law 362 = .ok (.aload_n 0, 1) := dk_42 (dk_at dksL_law_10 23 rfl rfl)
theorem dL_law_363 : decode cL_law 363 = .ok (.iload_n 3, 1) := dk_29 (dk_at dksL_law_11 0 rfl rfl)
theorem dL_law_364 : decode cL_law 364 = .ok (.iconst 1, 1) := dk_4 (dk_at dksL_law_11 1 rfl rfl)
theorem dL_law_365 : decode cL_law 365 = .ok (.iadd, 1) := dk_96 (dk_at dksL_law_11 2 rfl rfl)
theorem dL_law_366 : decode cL_law 366 = .ok (.iaload, 1) := dk_46 (dk_at dksL_law_11 3 rfl rfl)
theorem dL_law_367 : decode cL_law 367 = .ok (.aload_n 0, 1) := dk_42 (dk_at dksL_law_11 4 rfl rfl)
theorem dL_law_368 : decode cL_law 368 = .ok (.iload_n 3, 1) := dk_29 (dk_at dksL_law_11 5 rfl rfl)
theorem dL_law_369 : decode cL_law 369 = .ok (.iconst 2, 1) := dk_5 (dk_at dksL_law_11 6 rfl rfl)
theorem dL_law_370 : decode cL_law 370 = .ok (.iadd, 1) := dk_96 (dk_at dksL_law_11 7 rfl rfl)
theorem dL_law_371 : decode cL_law 371 = .ok (.iaload, 1) := dk_46 (dk_at dksL_law_11 8 rfl rfl)
theorem dL_law_372 : decode cL_law 372 = .ok (.invokevirtual 39, 3) := dk_182 0 39 (dk_at dksL_law_11 9 rfl rfl)
theorem dL_law_375 : decode cL_law 375 = .ok (.if_icmp .eq 664, 3) := dk_159 2 152 (dk_at dksL_law_11 12 rfl rfl)
theorem dL_law_378 : decode cL_law 378 = .ok (.iconst 0, 1) := dk_3 (dk_at dksL_law_11 15 rfl rfl)
theorem dL_law_379 : decode cL_law 379 = .ok (.ireturn, 1) := dk_172 (dk_at dksL_law_11 16 rfl rfl)
theorem dL_law_380 : decode cL_law 380 = .ok (.aload_n 1, 1) := dk_43 (dk_at dksL_law_11 17 rfl rfl)
theorem dL_law_381 : decode cL_law 381 = .ok (.aload_n 0, 1) := dk_42 (dk_at dksL_law_11 18 rfl rfl)
theorem dL_law_382 : decode cL_law 382 = .ok (.iload_n 3, 1) := dk_29 (dk_at dksL_law_11 19 rfl rfl)
theorem dL_law_383 : decode cL_law 383 = .ok (.iconst 1, 1) := dk_4 (dk_at dksL_law_11 20 rfl rfl)
theorem dL_law_384 : decode cL_law 384 = .ok (.iadd, 1) := dk_96 (dk_at dksL_law_11 21 rfl rfl)
theorem dL_law_385 : decode cL_law 385 = .ok (.iaload, 1) := dk_46 (dk_at dksL_law_11 22 rfl rfl)
theorem dL_law_386 : decode cL_law 386 = .ok (.invokevirtual 40, 3) := dk_182 0 40 (dk_at dksL_law_12 0 rfl rfl)
theorem dL_law_389 : decode cL_law 389 = .ok (.aload_n 2, 1) := dk_44 (dk_at dksL_law_12 3 rfl rfl)
theorem dL_law_390 : decode cL_law 390 = .ok (.aload_n 0, 1) := dk_42 (dk_at dksL_law_12 4 rfl rfl)
theorem dL_law_391 : decode cL_law 391 = .ok (.iload_n 3, 1) := dk_29 (dk_at dksL_law_12 5 rfl rfl)
theorem dL_law_392 : decode cL_law 392 = .ok (.iconst 1, 1) := dk_4 (dk_at dksL_law_12 6 rfl rfl)
theorem dL_law_393 : decode cL_law 393 = .ok (.iadd, 1) := dk_96 (dk_at dksL_law_12 7 rfl rfl)
theorem dL_law_394 : decode cL_law 394 = .ok (.iaload, 1) := dk_46 (dk_at dksL_law_12 8 rfl rfl)
theorem dL_law_395 : decode cL_law 395 = .ok (.invokevirtual 43, 3) := dk_182 0 43 (dk_at dksL_law_12 9 rfl rfl)
theorem dL_law_398 : decode cL_law 398 = .ok (.if_icmp .eq 641, 3) := dk_159 2 129 (dk_at dksL_law_12 12 rfl rfl)
theorem dL_law_401 : decode cL_law 401 = .ok (.iconst 0, 1) := dk_3 (dk_at dksL_law_12 15 rfl rfl)
theorem dL_law_402 : decode cL_law 402 = .ok (.ireturn, 1) := dk_172 (dk_at dksL_law_12 16 rfl rfl)
theorem dL_law_403 : decode cL_law 403 = .ok (.aload_n 1, 1) := dk_43 (dk_at dksL_law_12 17 rfl rfl)
theorem dL_law_404 : decode cL_law 404 = .ok (.aload_n 0, 1) := dk_42 (dk_at dksL_law_12 18 rfl rfl)
theorem dL_law_405 : decode cL_law 405 = .ok (.iload_n 3, 1) := dk_29 (dk_at dksL_law_12 19 rfl rfl)
theorem dL_law_406 : decode cL_law 406 = .ok (.iconst 1, 1) := dk_4 (dk_at dksL_law_12 20 rfl rfl)
theorem dL_law_407 : decode cL_law 407 = .ok (.iadd, 1) := dk_96 (dk_at dksL_law_12 21 rfl rfl)
theorem dL_law_408 : decode cL_law 408 = .ok (.iaload, 1) := dk_46 (dk_at dksL_law_12 22 rfl rfl)
theorem dL_law_409 : decode cL_law 409 = .ok (.invokevirtual 44, 3) := dk_182 0 44 (dk_at dksL_law_13 0 rfl rfl)
theorem dL_law_412 : decode cL_law 412 = .ok (.aload_n 2, 1) := dk_44 (dk_at dksL_law_13 3 rfl rfl)
theorem dL_law_413 : decode cL_law 413 = .ok (.aload_n 0, 1) := dk_42 (dk_at dksL_law_13 4 rfl rfl)
theorem dL_law_414 : decode cL_law 414 = .ok (.iload_n 3, 1) := dk_29 (dk_at dksL_law_13 5 rfl rfl)
theorem dL_law_415 : decode cL_law 415 = .ok (.iconst 1, 1) := dk_4 (dk_at dksL_law_13 6 rfl rfl)
theorem dL_law_416 : decode cL_law 416 = .ok (.iadd, 1) := dk_96 (dk_at dksL_law_13 7 rfl rfl)
theorem dL_law_417 : decode cL_law 417 = .ok (.iaload, 1) := dk_46 (dk_at dksL_law_13 8 rfl rfl)
theorem dL_law_418 : decode cL_law 418 = .ok (.invokevirtual 47, 3) := dk_182 0 47 (dk_at dksL_law_13 9 rfl rfl)
theorem dL_law_421 : decode cL_law 421 = .ok (.if_icmp .eq 618, 3) := dk_159 2 106 (dk_at dksL_law_13 12 rfl rfl)
theorem dL_law_424 : decode cL_law 424 = .ok (.iconst 0, 1) := dk_3 (dk_at dksL_law_13 15 rfl rfl)
theorem dL_law_425 : decode cL_law 425 = .ok (.ireturn, 1) := dk_172 (dk_at dksL_law_13 16 rfl rfl)
theorem dL_law_426 : decode cL_law 426 = .ok (.aload_n 1, 1) := dk_43 (dk_at dksL_law_13 17 rfl rfl)
theorem dL_law_427 : decode cL_law 427 = .ok (.aload_n 0, 1) := dk_42 (dk_at dksL_law_13 18 rfl rfl)
theorem dL_law_428 : decode cL_law 428 = .ok (.iload_n 3, 1) := dk_29 (dk_at dksL_law_13 19 rfl rfl)
theorem dL_law_429 : decode cL_law 429 = .ok (.iconst 1, 1) := dk_4 (dk_at dksL_law_13 20 rfl rfl)
theorem dL_law_430 : decode cL_law 430 = .ok (.iadd, 1) := dk_96 (dk_at dksL_law_13 21 rfl rfl)
theorem dL_law_431 : decode cL_law 431 = .ok (.iaload, 1) := dk_46 (dk_at dksL_law_13 22 rfl rfl)
theorem dL_law_432 : decode cL_law 432 = .ok (.invokevirtual 48, 3) := dk_182 0 48 (dk_at dksL_law_14 0 rfl rfl)
theorem dL_law_435 : decode cL_law 435 = .ok (.aload_n 2, 1) := dk_44 (dk_at dksL_law_14 3 rfl rfl)
theorem dL_law_436 : decode cL_law 436 = .ok (.aload_n 0, 1) := dk_42 (dk_at dksL_law_14 4 rfl rfl)
theorem dL_law_437 : decode cL_law 437 = .ok (.iload_n 3, 1) := dk_29 (dk_at dksL_law_14 5 rfl rfl)
theorem dL_law_438 : decode cL_law 438 = .ok (.iconst 1, 1) := dk_4 (dk_at dksL_law_14 6 rfl rfl)
theorem dL_law_439 : decode cL_law 439 = .ok (.iadd, 1) := dk_96 (dk_at dksL_law_14 7 rfl rfl)
theorem dL_law_440 : decode cL_law 440 = .ok (.iaload, 1) := dk_46 (dk_at dksL_law_14 8 rfl rfl)
theorem dL_law_441 : decode cL_law 441 = .ok (.invokevirtual 51, 3) := dk_182 0 51 (dk_at dksL_law_14 9 rfl rfl)
theorem dL_law_444 : decode cL_law 444 = .ok (.if_icmp .eq 595, 3) := dk_159 2 83 (dk_at dksL_law_14 12 rfl rfl)
theorem dL_law_447 : decode cL_law 447 = .ok (.iconst 0, 1) := dk_3 (dk_at dksL_law_14 15 rfl rfl)
theorem dL_law_448 : decode cL_law 448 = .ok (.ireturn, 1) := dk_172 (dk_at dksL_law_14 16 rfl rfl)
theorem dL_law_449 : decode cL_law 449 = .ok (.aload_n 1, 1) := dk_43 (dk_at dksL_law_14 17 rfl rfl)
theorem dL_law_450 : decode cL_law 450 = .ok (.aload_n 0, 1) := dk_42 (dk_at dksL_law_14 18 rfl rfl)
theorem dL_law_451 : decode cL_law 451 = .ok (.iload_n 3, 1) := dk_29 (dk_at dksL_law_14 19 rfl rfl)
theorem dL_law_452 : decode cL_law 452 = .ok (.iconst 1, 1) := dk_4 (dk_at dksL_law_14 20 rfl rfl)
theorem dL_law_453 : decode cL_law 453 = .ok (.iadd, 1) := dk_96 (dk_at dksL_law_14 21 rfl rfl)
theorem dL_law_454 : decode cL_law 454 = .ok (.iaload, 1) := dk_46 (dk_at dksL_law_14 22 rfl rfl)
theorem dL_law_455 : decode cL_law 455 = .ok (.invokevirtual 52, 3) := dk_182 0 52 (dk_at dksL_law_15 0 rfl rfl)
theorem dL_law_458 : decode cL_law 458 = .ok (.aload_n 2, 1) := dk_44 (dk_at dksL_law_15 3 rfl rfl)
theorem dL_law_459 : decode cL_law 459 = .ok (.aload_n 0, 1) := dk_42 (dk_at dksL_law_15 4 rfl rfl)
theorem dL_law_460 : decode cL_law 460 = .ok (.iload_n 3, 1) := dk_29 (dk_at dksL_law_15 5 rfl rfl)
theorem dL_law_461 : decode cL_law 461 = .ok (.iconst 1, 1) := dk_4 (dk_at dksL_law_15 6 rfl rfl)
theorem dL_law_462 : decode cL_law 462 = .ok (.iadd, 1) := dk_96 (dk_at dksL_law_15 7 rfl rfl)
theorem dL_law_463 : decode cL_law 463 = .ok (.iaload, 1) := dk_46 (dk_at dksL_law_15 8 rfl rfl)
theorem dL_law_464 : decode cL_law 464 = .ok (.invokevirtual 55, 3) := dk_182 0 55 (dk_at dksL_law_15 9 rfl rfl)
theorem dL_law_467 : decode cL_law 467 = .ok (.if_icmp .eq 572, 3) := dk_159 2 60 (dk_at dksL_law_15 12 rfl rfl)
theorem dL_law_470 : decode cL_law 470 = .ok (.iconst 0, 1) := dk_3 (dk_at dksL_law_15 15 rfl rfl)
theorem dL_law_471 : decode cL_law 471 = .ok (.ireturn, 1) := dk_172 (dk_at dksL_law_15 16 rfl rfl)
theorem dL_law_472 : decode cL_law 472 = .ok (.aload_n 1, 1) := dk_43 (dk_at dksL_law_15 17 rfl rfl)
theorem dL_law_473 : decode cL_law 473 = .ok (.aload_n 0, 1) := dk_42 (dk_at dksL_law_15 18 rfl rfl)
theorem dL_law_474 : decode cL_law 474 = .ok (.iload_n 3, 1) := dk_29 (dk_at dksL_law_15 19 rfl rfl)
theorem dL_law_475 : decode cL_law 475 = .ok (.iconst 1, 1) := dk_4 (dk_at dksL_law_15 20 rfl rfl)
theorem dL_law_476 : decode cL_law 476 = .ok (.iadd, 1) := dk_96 (dk_at dksL_law_15 21 rfl rfl)
theorem dL_law_477 : decode cL_law 477 = .ok (.iaload, 1) := dk_46 (dk_at dksL_law_15 22 rfl rfl)
theorem dL_law_478 : decode cL_law 478 = .ok (.invokevirtual 56, 3) := dk_182 0 56 (dk_at dksL_law_16 0 rfl rfl)
theorem dL_law_481 : decode cL_law 481 = .ok (.aload_n 2, 1) := dk_44 (dk_at dksL_law_16 3 rfl rfl)
theorem dL_law_482 : decode cL_law 482 = .ok (.aload_n 0, 1) := dk_42 (dk_at dksL_law_16 4 rfl rfl)
theorem dL_law_483 : decode cL_law 483 = .ok (.iload_n 3, 1) := dk_29 (dk_at dksL_law_16 5 rfl rfl)
theorem dL_law_484 : decode cL_law 484 = .ok (.iconst 1, 1) := dk_4 (dk_at dksL_law_16 6 rfl rfl)
theorem dL_law_485 : decode cL_law 485 = .ok (.iadd, 1) := dk_96 (dk_at dksL_law_16 7 rfl rfl)
theorem dL_law_486 : decode cL_law 486 = .ok (.iaload, 1) := dk_46 (dk_at dksL_law_16 8 rfl rfl)
theorem dL_law_487 : decode cL_law 487 = .ok (.invokevirtual 59, 3) := dk_182 0 59 (dk_at dksL_law_16 9 rfl rfl)
theorem dL_law_490 : decode cL_law 490 = .ok (.if_icmp .eq 549, 3) := dk_159 2 37 (dk_at dksL_law_16 12 rfl rfl)
theorem dL_law_493 : decode cL_law 493 = .ok (.iconst 0, 1) := dk_3 (dk_at dksL_law_16 15 rfl rfl)
theorem dL_law_494 : decode cL_law 494 = .ok (.ireturn, 1) := dk_172 (dk_at dksL_law_16 16 rfl rfl)
theorem dL_law_495 : decode cL_law 495 = .ok (.aload_n 1, 1) := dk_43 (dk_at dksL_law_16 17 rfl rfl)
theorem dL_law_496 : decode cL_law 496 = .ok (.aload_n 0, 1) := dk_42 (dk_at dksL_law_16 18 rfl rfl)
theorem dL_law_497 : decode cL_law 497 = .ok (.iload_n 3, 1) := dk_29 (dk_at dksL_law_16 19 rfl rfl)
theorem dL_law_498 : decode cL_law 498 = .ok (.iconst 1, 1) := dk_4 (dk_at dksL_law_16 20 rfl rfl)
theorem dL_law_499 : decode cL_law 499 = .ok (.iadd, 1) := dk_96 (dk_at dksL_law_16 21 rfl rfl)
theorem dL_law_500 : decode cL_law 500 = .ok (.iaload, 1) := dk_46 (dk_at dksL_law_16 22 rfl rfl)
theorem dL_law_501 : decode cL_law 501 = .ok (.aload_n 0, 1) := dk_42 (dk_at dksL_law_16 23 rfl rfl)
theorem dL_law_502 : decode cL_law 502 = .ok (.iload_n 3, 1) := dk_29 (dk_at dksL_law_17 0 rfl rfl)
theorem dL_law_503 : decode cL_law 503 = .ok (.iconst 2, 1) := dk_5 (dk_at dksL_law_17 1 rfl rfl)
theorem dL_law_504 : decode cL_law 504 = .ok (.iadd, 1) := dk_96 (dk_at dksL_law_17 2 rfl rfl)
theorem dL_law_505 : decode cL_law 505 = .ok (.iaload, 1) := dk_46 (dk_at dksL_law_17 3 rfl rfl)
theorem dL_law_506 : decode cL_law 506 = .ok (.aload_n 0, 1) := dk_42 (dk_at dksL_law_17 4 rfl rfl)
theorem dL_law_507 : decode cL_law 507 = .ok (.iload_n 3, 1) := dk_29 (dk_at dksL_law_17 5 rfl rfl)
theorem dL_law_508 : decode cL_law 508 = .ok (.iconst 3, 1) := dk_6 (dk_at dksL_law_17 6 rfl rfl)
theorem dL_law_509 : decode cL_law 509 = .ok (.iadd, 1) := dk_96 (dk_at dksL_law_17 7 rfl rfl)
theorem dL_law_510 : decode cL_law 510 = .ok (.iaload, 1) := dk_46 (dk_at dksL_law_17 8 rfl rfl)
theorem dL_law_511 : decode cL_law 511 = .ok (.invokevirtual 60, 3) := dk_182 0 60 (dk_at dksL_law_17 9 rfl rfl)
theorem dL_law_514 : decode cL_law 514 = .ok (.aload_n 2, 1) := dk_44 (dk_at dksL_law_17 12 rfl rfl)
theorem dL_law_515 : decode cL_law 515 = .ok (.aload_n 0, 1) := dk_42 (dk_at dksL_law_17 13 rfl rfl)
theorem dL_law_516 : decode cL_law 516 = .ok (.iload_n 3, 1) := dk_29 (dk_at dksL_law_17 14 rfl rfl)
theorem dL_law_517 : decode cL_law 517 = .ok (.iconst 1, 1) := dk_4 (dk_at dksL_law_17 15 rfl rfl)
theorem dL_law_518 : decode cL_law 518 = .ok (.iadd, 1) := dk_96 (dk_at dksL_law_17 16 rfl rfl)
theorem dL_law_519 : decode cL_law 519 = .ok (.iaload, 1) := dk_46 (dk_at dksL_law_17 17 rfl rfl)
theorem dL_law_520 : decode cL_law 520 = .ok (.aload_n 0, 1) := dk_42 (dk_at dksL_law_17 18 rfl rfl)
theorem dL_law_521 : decode cL_law 521 = .ok (.iload_n 3, 1) := dk_29 (dk_at dksL_law_17 19 rfl rfl)
theorem dL_law_522 : decode cL_law 522 = .ok (.iconst 2, 1) := dk_5 (dk_at dksL_law_17 20 rfl rfl)
theorem dL_law_523 : decode cL_law 523 = .ok (.iadd, 1) := dk_96 (dk_at dksL_law_17 21 rfl rfl)
theorem dL_law_524 : decode cL_law 524 = .ok (.iaload, 1) := dk_46 (dk_at dksL_law_17 22 rfl rfl)
theorem dL_law_525 : decode cL_law 525 = .ok (.aload_n 0, 1) := dk_42 (dk_at dksL_law_17 23 rfl rfl)
theorem dL_law_526 : decode cL_law 526 = .ok (.iload_n 3, 1) := dk_29 (dk_at dksL_law_18 0 rfl rfl)
theorem dL_law_527 : decode cL_law 527 = .ok (.iconst 3, 1) := dk_6 (dk_at dksL_law_18 1 rfl rfl)
theorem dL_law_528 : decode cL_law 528 = .ok (.iadd, 1) := dk_96 (dk_at dksL_law_18 2 rfl rfl)
theorem dL_law_529 : decode cL_law 529 = .ok (.iaload, 1) := dk_46 (dk_at dksL_law_18 3 rfl rfl)
theorem dL_law_530 : decode cL_law 530 = .ok (.invokevirtual 64, 3) := dk_182 0 64 (dk_at dksL_law_18 4 rfl rfl)
theorem dL_law_533 : decode cL_law 533 = .ok (.if_icmp .eq 506, 3) := dk_159 1 250 (dk_at dksL_law_18 7 rfl rfl)
theorem dL_law_536 : decode cL_law 536 = .ok (.iconst 0, 1) := dk_3 (dk_at dksL_law_18 10 rfl rfl)
theorem dL_law_537 : decode cL_law 537 = .ok (.ireturn, 1) := dk_172 (dk_at dksL_law_18 11 rfl rfl)
theorem dL_law_538 : decode cL_law 538 = .ok (.aload_n 1, 1) := dk_43 (dk_at dksL_law_18 12 rfl rfl)
theorem dL_law_539 : decode cL_law 539 = .ok (.aload_n 0, 1) := dk_42 (dk_at dksL_law_18 13 rfl rfl)
theorem dL_law_540 : decode cL_law 540 = .ok (.iload_n 3, 1) := dk_29 (dk_at dksL_law_18 14 rfl rfl)
theorem dL_law_541 : decode cL_law 541 = .ok (.iconst 1, 1) := dk_4 (dk_at dksL_law_18 15 rfl rfl)
theorem dL_law_542 : decode cL_law 542 = .ok (.iadd, 1) := dk_96 (dk_at dksL_law_18 16 rfl rfl)
theorem dL_law_543 : decode cL_law 543 = .ok (.iaload, 1) := dk_46 (dk_at dksL_law_18 17 rfl rfl)
theorem dL_law_544 : decode cL_law 544 = .ok (.aload_n 0, 1) := dk_42 (dk_at dksL_law_18 18 rfl rfl)
theorem dL_law_545 : decode cL_law 545 = .ok (.iload_n 3, 1) := dk_29 (dk_at dksL_law_18 19 rfl rfl)
theorem dL_law_546 : decode cL_law 546 = .ok (.iconst 2, 1) := dk_5 (dk_at dksL_law_18 20 rfl rfl)
theorem dL_law_547 : decode cL_law 547 = .ok (.iadd, 1) := dk_96 (dk_at dksL_law_18 21 rfl rfl)
theorem dL_law_548 : decode cL_law 548 = .ok (.iaload, 1) := dk_46 (dk_at dksL_law_18 22 rfl rfl)
theorem dL_law_549 : decode cL_law 549 = .ok (.aload_n 0, 1) := dk_42 (dk_at dksL_law_18 23 rfl rfl)
theorem dL_law_550 : decode cL_law 550 = .ok (.iload_n 3, 1) := dk_29 (dk_at dksL_law_19 0 rfl rfl)
theorem dL_law_551 : decode cL_law 551 = .ok (.iconst 3, 1) := dk_6 (dk_at dksL_law_19 1 rfl rfl)
theorem dL_law_552 : decode cL_law 552 = .ok (.iadd, 1) := dk_96 (dk_at dksL_law_19 2 rfl rfl)
theorem dL_law_553 : decode cL_law 553 = .ok (.iaload, 1) := dk_46 (dk_at dksL_law_19 3 rfl rfl)
theorem dL_law_554 : decode cL_law 554 = .ok (.invokevirtual 65, 3) := dk_182 0 65 (dk_at dksL_law_19 4 rfl rfl)
theorem dL_law_557 : decode cL_law 557 = .ok (.aload_n 2, 1) := dk_44 (dk_at dksL_law_19 7 rfl rfl)
theorem dL_law_558 : decode cL_law 558 = .ok (.aload_n 0, 1) := dk_42 (dk_at dksL_law_19 8 rfl rfl)
theorem dL_law_559 : decode cL_law 559 = .ok (.iload_n 3, 1) := dk_29 (dk_at dksL_law_19 9 rfl rfl)
theorem dL_law_560 : decode cL_law 560 = .ok (.iconst 1, 1) := dk_4 (dk_at dksL_law_19 10 rfl rfl)
theorem dL_law_561 : decode cL_law 561 = .ok (.iadd, 1) := dk_96 (dk_at dksL_law_19 11 rfl rfl)
theorem dL_law_562 : decode cL_law 562 = .ok (.iaload, 1) := dk_46 (dk_at dksL_law_19 12 rfl rfl)
theorem dL_law_563 : decode cL_law 563 = .ok (.aload_n 0, 1) := dk_42 (dk_at dksL_law_19 13 rfl rfl)
theorem dL_law_564 : decode cL_law 564 = .ok (.iload_n 3, 1) := dk_29 (dk_at dksL_law_19 14 rfl rfl)
theorem dL_law_565 : decode cL_law 565 = .ok (.iconst 2, 1) := dk_5 (dk_at dksL_law_19 15 rfl rfl)
theorem dL_law_566 : decode cL_law 566 = .ok (.iadd, 1) := dk_96 (dk_at dksL_law_19 16 rfl rfl)
theorem dL_law_567 : decode cL_law 567 = .ok (.iaload, 1) := dk_46 (dk_at dksL_law_19 17 rfl rfl)
theorem dL_law_568 : decode cL_law 568 = .ok (.aload_n 0, 1) := dk_42 (dk_at dksL_law_19 18 rfl rfl)
theorem dL_law_569 : decode cL_law 569 = .ok (.iload_n 3, 1) := dk_29 (dk_at dksL_law_19 19 rfl rfl)
theorem dL_law_570 : decode cL_law 570 = .ok (.iconst 3, 1) := dk_6 (dk_at dksL_law_19 20 rfl rfl)
theorem dL_law_571 : decode cL_law 571 = .ok (.iadd, 1) := dk_96 (dk_at dksL_law_19 21 rfl rfl)
theorem dL_law_572 : decode cL_law 572 = .ok (.iaload, 1) := dk_46 (dk_at dksL_law_19 22 rfl rfl)
theorem dL_law_573 : decode cL_law 573 = .ok (.invokevirtual 68, 3) := dk_182 0 68 (dk_at dksL_law_20 0 rfl rfl)
theorem dL_law_576 : decode cL_law 576 = .ok (.if_icmp .eq 463, 3) := dk_159 1 207 (dk_at dksL_law_20 3 rfl rfl)
theorem dL_law_579 : decode cL_law 579 = .ok (.iconst 0, 1) := dk_3 (dk_at dksL_law_20 6 rfl rfl)
theorem dL_law_580 : decode cL_law 580 = .ok (.ireturn, 1) := dk_172 (dk_at dksL_law_20 7 rfl rfl)
theorem dL_law_581 : decode cL_law 581 = .ok (.aload_n 1, 1) := dk_43 (dk_at dksL_law_20 8 rfl rfl)
theorem dL_law_582 : decode cL_law 582 = .ok (.aload_n 0, 1) := dk_42 (dk_at dksL_law_20 9 rfl rfl)
theorem dL_law_583 : decode cL_law 583 = .ok (.iload_n 3, 1) := dk_29 (dk_at dksL_law_20 10 rfl rfl)
theorem dL_law_584 : decode cL_law 584 = .ok (.iconst 1, 1) := dk_4 (dk_at dksL_law_20 11 rfl rfl)
theorem dL_law_585 : decode cL_law 585 = .ok (.iadd, 1) := dk_96 (dk_at dksL_law_20 12 rfl rfl)
theorem dL_law_586 : decode cL_law 586 = .ok (.iaload, 1) := dk_46 (dk_at dksL_law_20 13 rfl rfl)
theorem dL_law_587 : decode cL_law 587 = .ok (.aload_n 0, 1) := dk_42 (dk_at dksL_law_20 14 rfl rfl)
theorem dL_law_588 : decode cL_law 588 = .ok (.iload_n 3, 1) := dk_29 (dk_at dksL_law_20 15 rfl rfl)
theorem dL_law_589 : decode cL_law 589 = .ok (.iconst 2, 1) := dk_5 (dk_at dksL_law_20 16 rfl rfl)
theorem dL_law_590 : decode cL_law 590 = .ok (.iadd, 1) := dk_96 (dk_at dksL_law_20 17 rfl rfl)
theorem dL_law_591 : decode cL_law 591 = .ok (.iaload, 1) := dk_46 (dk_at dksL_law_20 18 rfl rfl)
theorem dL_law_592 : decode cL_law 592 = .ok (.aload_n 0, 1) := dk_42 (dk_at dksL_law_20 19 rfl rfl)
theorem dL_law_593 : decode cL_law 593 = .ok (.iload_n 3, 1) := dk_29 (dk_at dksL_law_20 20 rfl rfl)
theorem dL_law_594 : decode cL_law 594 = .ok (.iconst 3, 1) := dk_6 (dk_at dksL_law_20 21 rfl rfl)
theorem dL_law_595 : decode cL_law 595 = .ok (.iadd, 1) := dk_96 (dk_at dksL_law_20 22 rfl rfl)
theorem dL_law_596 : decode cL_law 596 = .ok (.iaload, 1) := dk_46 (dk_at dksL_law_20 23 rfl rfl)
theorem dL_law_597 : decode cL_law 597 = .ok (.aload_n 0, 1) := dk_42 (dk_at dksL_law_21 0 rfl rfl)
theorem dL_law_598 : decode cL_law 598 = .ok (.iload_n 3, 1) := dk_29 (dk_at dksL_law_21 1 rfl rfl)
theorem dL_law_599 : decode cL_law 599 = .ok (.iconst 4, 1) := dk_7 (dk_at dksL_law_21 2 rfl rfl)
theorem dL_law_600 : decode cL_law 600 = .ok (.iadd, 1) := dk_96 (dk_at dksL_law_21 3 rfl rfl)
theorem dL_law_601 : decode cL_law 601 = .ok (.iaload, 1) := dk_46 (dk_at dksL_law_21 4 rfl rfl)
theorem dL_law_602 : decode cL_law 602 = .ok (.invokevirtual 69, 3) := dk_182 0 69 (dk_at dksL_law_21 5 rfl rfl)
theorem dL_law_605 : decode cL_law 605 = .ok (.aload_n 2, 1) := dk_44 (dk_at dksL_law_21 8 rfl rfl)
theorem dL_law_606 : decode cL_law 606 = .ok (.aload_n 0, 1) := dk_42 (dk_at dksL_law_21 9 rfl rfl)
theorem dL_law_607 : decode cL_law 607 = .ok (.iload_n 3, 1) := dk_29 (dk_at dksL_law_21 10 rfl rfl)
theorem dL_law_608 : decode cL_law 608 = .ok (.iconst 1, 1) := dk_4 (dk_at dksL_law_21 11 rfl rfl)
theorem dL_law_609 : decode cL_law 609 = .ok (.iadd, 1) := dk_96 (dk_at dksL_law_21 12 rfl rfl)
theorem dL_law_610 : decode cL_law 610 = .ok (.iaload, 1) := dk_46 (dk_at dksL_law_21 13 rfl rfl)
theorem dL_law_611 : decode cL_law 611 = .ok (.aload_n 0, 1) := dk_42 (dk_at dksL_law_21 14 rfl rfl)
theorem dL_law_612 : decode cL_law 612 = .ok (.iload_n 3, 1) := dk_29 (dk_at dksL_law_21 15 rfl rfl)
theorem dL_law_613 : decode cL_law 613 = .ok (.iconst 2, 1) := dk_5 (dk_at dksL_law_21 16 rfl rfl)
theorem dL_law_614 : decode cL_law 614 = .ok (.iadd, 1) := dk_96 (dk_at dksL_law_21 17 rfl rfl)
theorem dL_law_615 : decode cL_law 615 = .ok (.iaload, 1) := dk_46 (dk_at dksL_law_21 18 rfl rfl)
theorem dL_law_616 : decode cL_law 616 = .ok (.aload_n 0, 1) := dk_42 (dk_at dksL_law_21 19 rfl rfl)
theorem dL_law_617 : decode cL_law 617 = .ok (.iload_n 3, 1) := dk_29 (dk_at dksL_law_21 20 rfl rfl)
theorem dL_law_618 : decode cL_law 618 = .ok (.iconst 3, 1) := dk_6 (dk_at dksL_law_21 21 rfl rfl)
theorem dL_law_619 : decode cL_law 619 = .ok (.iadd, 1) := dk_96 (dk_at dksL_law_21 22 rfl rfl)
theorem dL_law_620 : decode cL_law 620 = .ok (.iaload, 1) := dk_46 (dk_at dksL_law_21 23 rfl rfl)
theorem dL_law_621 : decode cL_law 621 = .ok (.aload_n 0, 1) := dk_42 (dk_at dksL_law_22 0 rfl rfl)
theorem dL_law_622 : decode cL_law 622 = .ok (.iload_n 3, 1) := dk_29 (dk_at dksL_law_22 1 rfl rfl)
theorem dL_law_623 : decode cL_law 623 = .ok (.iconst 4, 1) := dk_7 (dk_at dksL_law_22 2 rfl rfl)
theorem dL_law_624 : decode cL_law 624 = .ok (.iadd, 1) := dk_96 (dk_at dksL_law_22 3 rfl rfl)
theorem dL_law_625 : decode cL_law 625 = .ok (.iaload, 1) := dk_46 (dk_at dksL_law_22 4 rfl rfl)
theorem dL_law_626 : decode cL_law 626 = .ok (.invokevirtual 72, 3) := dk_182 0 72 (dk_at dksL_law_22 5 rfl rfl)
theorem dL_law_629 : decode cL_law 629 = .ok (.if_icmp .eq 410, 3) := dk_159 1 154 (dk_at dksL_law_22 8 rfl rfl)
theorem dL_law_632 : decode cL_law 632 = .ok (.iconst 0, 1) := dk_3 (dk_at dksL_law_22 11 rfl rfl)
theorem dL_law_633 : decode cL_law 633 = .ok (.ireturn, 1) := dk_172 (dk_at dksL_law_22 12 rfl rfl)
theorem dL_law_634 : decode cL_law 634 = .ok (.aload_n 1, 1) := dk_43 (dk_at dksL_law_22 13 rfl rfl)
theorem dL_law_635 : decode cL_law 635 = .ok (.aload_n 0, 1) := dk_42 (dk_at dksL_law_22 14 rfl rfl)
theorem dL_law_636 : decode cL_law 636 = .ok (.iload_n 3, 1) := dk_29 (dk_at dksL_law_22 15 rfl rfl)
theorem dL_law_637 : decode cL_law 637 = .ok (.iconst 1, 1) := dk_4 (dk_at dksL_law_22 16 rfl rfl)
theorem dL_law_638 : decode cL_law 638 = .ok (.iadd, 1) := dk_96 (dk_at dksL_law_22 17 rfl rfl)
theorem dL_law_639 : decode cL_law 639 = .ok (.iaload, 1) := dk_46 (dk_at dksL_law_22 18 rfl rfl)
theorem dL_law_640 : decode cL_law 640 = .ok (.aload_n 0, 1) := dk_42 (dk_at dksL_law_22 19 rfl rfl)
theorem dL_law_641 : decode cL_law 641 = .ok (.iload_n 3, 1) := dk_29 (dk_at dksL_law_22 20 rfl rfl)
theorem dL_law_642 : decode cL_law 642 = .ok (.iconst 2, 1) := dk_5 (dk_at dksL_law_22 21 rfl rfl)
theorem dL_law_643 : decode cL_law 643 = .ok (.iadd, 1) := dk_96 (dk_at dksL_law_22 22 rfl rfl)
theorem dL_law_644 : decode cL_law 644 = .ok (.iaload, 1) := dk_46 (dk_at dksL_law_22 23 rfl rfl)
theorem dL_law_645 : decode cL_law 645 = .ok (.aload_n 0, 1) := dk_42 (dk_at dksL_law_23 0 rfl rfl)
theorem dL_law_646 : decode cL_law 646 = .ok (.iload_n 3, 1) := dk_29 (dk_at dksL_law_23 1 rfl rfl)
theorem dL_law_647 : decode cL_law 647 = .ok (.iconst 3, 1) := dk_6 (dk_at dksL_law_23 2 rfl rfl)
theorem dL_law_648 : decode cL_law 648 = .ok (.iadd, 1) := dk_96 (dk_at dksL_law_23 3 rfl rfl)
theorem dL_law_649 : decode cL_law 649 = .ok (.iaload, 1) := dk_46 (dk_at dksL_law_23 4 rfl rfl)
theorem dL_law_650 : decode cL_law 650 = .ok (.invokevirtual 73, 3) := dk_182 0 73 (dk_at dksL_law_23 5 rfl rfl)
theorem dL_law_653 : decode cL_law 653 = .ok (.aload_n 2, 1) := dk_44 (dk_at dksL_law_23 8 rfl rfl)
theorem dL_law_654 : decode cL_law 654 = .ok (.aload_n 0, 1) := dk_42 (dk_at dksL_law_23 9 rfl rfl)
theorem dL_law_655 : decode cL_law 655 = .ok (.iload_n 3, 1) := dk_29 (dk_at dksL_law_23 10 rfl rfl)
theorem dL_law_656 : decode cL_law 656 = .ok (.iconst 1, 1) := dk_4 (dk_at dksL_law_23 11 rfl rfl)
theorem dL_law_657 : decode cL_law 657 = .ok (.iadd, 1) := dk_96 (dk_at dksL_law_23 12 rfl rfl)
theorem dL_law_658 : decode cL_law 658 = .ok (.iaload, 1) := dk_46 (dk_at dksL_law_23 13 rfl rfl)
theorem dL_law_659 : decode cL_law 659 = .ok (.aload_n 0, 1) := dk_42 (dk_at dksL_law_23 14 rfl rfl)
theorem dL_law_660 : decode cL_law 660 = .ok (.iload_n 3, 1) := dk_29 (dk_at dksL_law_23 15 rfl rfl)
theorem dL_law_661 : decode cL_law 661 = .ok (.iconst 2, 1) := dk_5 (dk_at dksL_law_23 16 rfl rfl)
theorem dL_law_662 : decode cL_law 662 = .ok (.iadd, 1) := dk_96 (dk_at dksL_law_23 17 rfl rfl)
theorem dL_law_663 : decode cL_law 663 = .ok (.iaload, 1) := dk_46 (dk_at dksL_law_23 18 rfl rfl)
theorem dL_law_664 : decode cL_law 664 = .ok (.aload_n 0, 1) := dk_42 (dk_at dksL_law_23 19 rfl rfl)
theorem dL_law_665 : decode cL_law 665 = .ok (.iload_n 3, 1) := dk_29 (dk_at dksL_law_23 20 rfl rfl)
theorem dL_law_666 : decode cL_law 666 = .ok (.iconst 3, 1) := dk_6 (dk_at dksL_law_23 21 rfl rfl)
theorem dL_law_667 : decode cL_law 667 = .ok (.iadd, 1) := dk_96 (dk_at dksL_law_23 22 rfl rfl)
theorem dL_law_668 : decode cL_law 668 = .ok (.iaload, 1) := dk_46 (dk_at dksL_law_23 23 rfl rfl)
theorem dL_law_669 : decode cL_law 669 = .ok (.invokevirtual 76, 3) := dk_182 0 76 (dk_at dksL_law_24 0 rfl rfl)
theorem dL_law_672 : decode cL_law 672 = .ok (.if_icmp .eq 367, 3) := dk_159 1 111 (dk_at dksL_law_24 3 rfl rfl)
theorem dL_law_675 : decode cL_law 675 = .ok (.iconst 0, 1) := dk_3 (dk_at dksL_law_24 6 rfl rfl)
theorem dL_law_676 : decode cL_law 676 = .ok (.ireturn, 1) := dk_172 (dk_at dksL_law_24 7 rfl rfl)
theorem dL_law_677 : decode cL_law 677 = .ok (.aload_n 1, 1) := dk_43 (dk_at dksL_law_24 8 rfl rfl)
theorem dL_law_678 : decode cL_law 678 = .ok (.invokevirtual 77, 3) := dk_182 0 77 (dk_at dksL_law_24 9 rfl rfl)
theorem dL_law_681 : decode cL_law 681 = .ok (.aload_n 2, 1) := dk_44 (dk_at dksL_law_24 12 rfl rfl)
theorem dL_law_682 : decode cL_law 682 = .ok (.invokevirtual 81, 3) := dk_182 0 81 (dk_at dksL_law_24 13 rfl rfl)
theorem dL_law_685 : decode cL_law 685 = .ok (.if_icmp .eq 354, 3) := dk_159 1 98 (dk_at dksL_law_24 16 rfl rfl)
theorem dL_law_688 : decode cL_law 688 = .ok (.iconst 0, 1) := dk_3 (dk_at dksL_law_24 19 rfl rfl)
theorem dL_law_689 : decode cL_law 689 = .ok (.ireturn, 1) := dk_172 (dk_at dksL_law_24 20 rfl rfl)
theorem dL_law_690 : decode cL_law 690 = .ok (.aload_n 1, 1) := dk_43 (dk_at dksL_law_24 21 rfl rfl)
theorem dL_law_691 : decode cL_law 691 = .ok (.aload_n 0, 1) := dk_42 (dk_at dksL_law_24 22 rfl rfl)
theorem dL_law_692 : decode cL_law 692 = .ok (.iload_n 3, 1) := dk_29 (dk_at dksL_law_24 23 rfl rfl)
theorem dL_law_693 : decode cL_law 693 = .ok (.iconst 1, 1) := dk_4 (dk_at dksL_law_25 0 rfl rfl)
theorem dL_law_694 : decode cL_law 694 = .ok (.iadd, 1) := dk_96 (dk_at dksL_law_25 1 rfl rfl)
theorem dL_law_695 : decode cL_law 695 = .ok (.iaload, 1) := dk_46 (dk_at dksL_law_25 2 rfl rfl)
theorem dL_law_696 : decode cL_law 696 = .ok (.invokevirtual 82, 3) := dk_182 0 82 (dk_at dksL_law_25 3 rfl rfl)
theorem dL_law_699 : decode cL_law 699 = .ok (.aload_n 2, 1) := dk_44 (dk_at dksL_law_25 6 rfl rfl)
theorem dL_law_700 : decode cL_law 700 = .ok (.aload_n 0, 1) := dk_42 (dk_at dksL_law_25 7 rfl rfl)
theorem dL_law_701 : decode cL_law 701 = .ok (.iload_n 3, 1) := dk_29 (dk_at dksL_law_25 8 rfl rfl)
theorem dL_law_702 : decode cL_law 702 = .ok (.iconst 1, 1) := dk_4 (dk_at dksL_law_25 9 rfl rfl)
theorem dL_law_703 : decode cL_law 703 = .ok (.iadd, 1) := dk_96 (dk_at dksL_law_25 10 rfl rfl)
theorem dL_law_704 : decode cL_law 704 = .ok (.iaload, 1) := dk_46 (dk_at dksL_law_25 11 rfl rfl)
theorem dL_law_705 : decode cL_law 705 = .ok (.invokevirtual 85, 3) := dk_182 0 85 (dk_at dksL_law_25 12 rfl rfl)
theorem dL_law_708 : decode cL_law 708 = .ok (.if_icmp .eq 331, 3) := dk_159 1 75 (dk_at dksL_law_25 15 rfl rfl)
theorem dL_law_711 : decode cL_law 711 = .ok (.iconst 0, 1) := dk_3 (dk_at dksL_law_25 18 rfl rfl)
theorem dL_law_712 : decode cL_law 712 = .ok (.ireturn, 1) := dk_172 (dk_at dksL_law_25 19 rfl rfl)
theorem dL_law_713 : decode cL_law 713 = .ok (.aload_n 1, 1) := dk_43 (dk_at dksL_law_25 20 rfl rfl)
theorem dL_law_714 : decode cL_law 714 = .ok (.aload_n 0, 1) := dk_42 (dk_at dksL_law_25 21 rfl rfl)
theorem dL_law_715 : decode cL_law 715 = .ok (.iload_n 3, 1) := dk_29 (dk_at dksL_law_25 22 rfl rfl)
theorem dL_law_716 : decode cL_law 716 = .ok (.iconst 1, 1) := dk_4 (dk_at dksL_law_25 23 rfl rfl)
theorem dL_law_717 : decode cL_law 717 = .ok (.iadd, 1) := dk_96 (dk_at dksL_law_26 0 rfl rfl)
theorem dL_law_718 : decode cL_law 718 = .ok (.iaload, 1) := dk_46 (dk_at dksL_law_26 1 rfl rfl)
theorem dL_law_719 : decode cL_law 719 = .ok (.invokevirtual 86, 3) := dk_182 0 86 (dk_at dksL_law_26 2 rfl rfl)
theorem dL_law_722 : decode cL_law 722 = .ok (.aload_n 2, 1) := dk_44 (dk_at dksL_law_26 5 rfl rfl)
theorem dL_law_723 : decode cL_law 723 = .ok (.aload_n 0, 1) := dk_42 (dk_at dksL_law_26 6 rfl rfl)
theorem dL_law_724 : decode cL_law 724 = .ok (.iload_n 3, 1) := dk_29 (dk_at dksL_law_26 7 rfl rfl)
theorem dL_law_725 : decode cL_law 725 = .ok (.iconst 1, 1) := dk_4 (dk_at dksL_law_26 8 rfl rfl)
theorem dL_law_726 : decode cL_law 726 = .ok (.iadd, 1) := dk_96 (dk_at dksL_law_26 9 rfl rfl)
theorem dL_law_727 : decode cL_law 727 = .ok (.iaload, 1) := dk_46 (dk_at dksL_law_26 10 rfl rfl)
theorem dL_law_728 : decode cL_law 728 = .ok (.invokevirtual 89, 3) := dk_182 0 89 (dk_at dksL_law_26 11 rfl rfl)
theorem dL_law_731 : decode cL_law 731 = .ok (.if_icmp .eq 308, 3) := dk_159 1 52 (dk_at dksL_law_26 14 rfl rfl)
theorem dL_law_734 : decode cL_law 734 = .ok (.iconst 0, 1) := dk_3 (dk_at dksL_law_26 17 rfl rfl)
theorem dL_law_735 : decode cL_law 735 = .ok (.ireturn, 1) := dk_172 (dk_at dksL_law_26 18 rfl rfl)
theorem dL_law_736 : decode cL_law 736 = .ok (.aload_n 1, 1) := dk_43 (dk_at dksL_law_26 19 rfl rfl)
theorem dL_law_737 : decode cL_law 737 = .ok (.aload_n 0, 1) := dk_42 (dk_at dksL_law_26 20 rfl rfl)
theorem dL_law_738 : decode cL_law 738 = .ok (.iload_n 3, 1) := dk_29 (dk_at dksL_law_26 21 rfl rfl)
theorem dL_law_739 : decode cL_law 739 = .ok (.iconst 1, 1) := dk_4 (dk_at dksL_law_26 22 rfl rfl)
theorem dL_law_740 : decode cL_law 740 = .ok (.iadd, 1) := dk_96 (dk_at dksL_law_26 23 rfl rfl)
theorem dL_law_741 : decode cL_law 741 = .ok (.iaload, 1) := dk_46 (dk_at dksL_law_27 0 rfl rfl)
theorem dL_law_742 : decode cL_law 742 = .ok (.invokevirtual 90, 3) := dk_182 0 90 (dk_at dksL_law_27 1 rfl rfl)
theorem dL_law_745 : decode cL_law 745 = .ok (.aload_n 2, 1) := dk_44 (dk_at dksL_law_27 4 rfl rfl)
theorem dL_law_746 : decode cL_law 746 = .ok (.aload_n 0, 1) := dk_42 (dk_at dksL_law_27 5 rfl rfl)
theorem dL_law_747 : decode cL_law 747 = .ok (.iload_n 3, 1) := dk_29 (dk_at dksL_law_27 6 rfl rfl)
theorem dL_law_748 : decode cL_law 748 = .ok (.iconst 1, 1) := dk_4 (dk_at dksL_law_27 7 rfl rfl)
theorem dL_law_749 : decode cL_law 749 = .ok (.iadd, 1) := dk_96 (dk_at dksL_law_27 8 rfl rfl)
theorem dL_law_750 : decode cL_law 750 = .ok (.iaload, 1) := dk_46 (dk_at dksL_law_27 9 rfl rfl)
theorem dL_law_751 : decode cL_law 751 = .ok (.invokevirtual 93, 3) := dk_182 0 93 (dk_at dksL_law_27 10 rfl rfl)
theorem dL_law_754 : decode cL_law 754 = .ok (.if_icmp .eq 285, 3) := dk_159 1 29 (dk_at dksL_law_27 13 rfl rfl)
theorem dL_law_757 : decode cL_law 757 = .ok (.iconst 0, 1) := dk_3 (dk_at dksL_law_27 16 rfl rfl)
theorem dL_law_758 : decode cL_law 758 = .ok (.ireturn, 1) := dk_172 (dk_at dksL_law_27 17 rfl rfl)
theorem dL_law_759 : decode cL_law 759 = .ok (.aload_n 1, 1) := dk_43 (dk_at dksL_law_27 18 rfl rfl)
theorem dL_law_760 : decode cL_law 760 = .ok (.invokevirtual 94, 3) := dk_182 0 94 (dk_at dksL_law_27 19 rfl rfl)
theorem dL_law_763 : decode cL_law 763 = .ok (.aload_n 2, 1) := dk_44 (dk_at dksL_law_27 22 rfl rfl)
theorem dL_law_764 : decode cL_law 764 = .ok (.invokevirtual 97, 3) := dk_182 0 97 (dk_at dksL_law_28 0 rfl rfl)
theorem dL_law_767 : decode cL_law 767 = .ok (.if_icmp .eq 272, 3) := dk_159 1 16 (dk_at dksL_law_28 3 rfl rfl)
theorem dL_law_770 : decode cL_law 770 = .ok (.iconst 0, 1) := dk_3 (dk_at dksL_law_28 6 rfl rfl)
theorem dL_law_771 : decode cL_law 771 = .ok (.ireturn, 1) := dk_172 (dk_at dksL_law_28 7 rfl rfl)
theorem dL_law_772 : decode cL_law 772 = .ok (.aload_n 1, 1) := dk_43 (dk_at dksL_law_28 8 rfl rfl)
theorem dL_law_773 : decode cL_law 773 = .ok (.aload_n 0, 1) := dk_42 (dk_at dksL_law_28 9 rfl rfl)
theorem dL_law_774 : decode cL_law 774 = .ok (.iload_n 3, 1) := dk_29 (dk_at dksL_law_28 10 rfl rfl)
theorem dL_law_775 : decode cL_law 775 = .ok (.iconst 1, 1) := dk_4 (dk_at dksL_law_28 11 rfl rfl)
theorem dL_law_776 : decode cL_law 776 = .ok (.iadd, 1) := dk_96 (dk_at dksL_law_28 12 rfl rfl)
theorem dL_law_777 : decode cL_law 777 = .ok (.iaload, 1) := dk_46 (dk_at dksL_law_28 13 rfl rfl)
theorem dL_law_778 : decode cL_law 778 = .ok (.invokevirtual 98, 3) := dk_182 0 98 (dk_at dksL_law_28 14 rfl rfl)
theorem dL_law_781 : decode cL_law 781 = .ok (.aload_n 2, 1) := dk_44 (dk_at dksL_law_28 17 rfl rfl)
theorem dL_law_782 : decode cL_law 782 = .ok (.aload_n 0, 1) := dk_42 (dk_at dksL_law_28 18 rfl rfl)
theorem dL_law_783 : decode cL_law 783 = .ok (.iload_n 3, 1) := dk_29 (dk_at dksL_law_28 19 rfl rfl)
theorem dL_law_784 : decode cL_law 784 = .ok (.iconst 1, 1) := dk_4 (dk_at dksL_law_28 20 rfl rfl)
theorem dL_law_785 : decode cL_law 785 = .ok (.iadd, 1) := dk_96 (dk_at dksL_law_28 21 rfl rfl)
theorem dL_law_786 : decode cL_law 786 = .ok (.iaload, 1) := dk_46 (dk_at dksL_law_28 22 rfl rfl)
theorem dL_law_787 : decode cL_law 787 = .ok (.invokevirtual 101, 3) := dk_182 0 101 (dk_at dksL_law_29 0 rfl rfl)
theorem dL_law_790 : decode cL_law 790 = .ok (.if_icmp .eq 249, 3) := dk_159 0 249 (dk_at dksL_law_29 3 rfl rfl)
theorem dL_law_793 : decode cL_law 793 = .ok (.iconst 0, 1) := dk_3 (dk_at dksL_law_29 6 rfl rfl)
theorem dL_law_794 : decode cL_law 794 = .ok (.ireturn, 1) := dk_172 (dk_at dksL_law_29 7 rfl rfl)
theorem dL_law_795 : decode cL_law 795 = .ok (.aload_n 1, 1) := dk_43 (dk_at dksL_law_29 8 rfl rfl)
theorem dL_law_796 : decode cL_law 796 = .ok (.aload_n 0, 1) := dk_42 (dk_at dksL_law_29 9 rfl rfl)
theorem dL_law_797 : decode cL_law 797 = .ok (.iload_n 3, 1) := dk_29 (dk_at dksL_law_29 10 rfl rfl)
theorem dL_law_798 : decode cL_law 798 = .ok (.iconst 1, 1) := dk_4 (dk_at dksL_law_29 11 rfl rfl)
theorem dL_law_799 : decode cL_law 799 = .ok (.iadd, 1) := dk_96 (dk_at dksL_law_29 12 rfl rfl)
theorem dL_law_800 : decode cL_law 800 = .ok (.iaload, 1) := dk_46 (dk_at dksL_law_29 13 rfl rfl)
theorem dL_law_801 : decode cL_law 801 = .ok (.invokevirtual 102, 3) := dk_182 0 102 (dk_at dksL_law_29 14 rfl rfl)
theorem dL_law_804 : decode cL_law 804 = .ok (.aload_n 2, 1) := dk_44 (dk_at dksL_law_29 17 rfl rfl)
theorem dL_law_805 : decode cL_law 805 = .ok (.aload_n 0, 1) := dk_42 (dk_at dksL_law_29 18 rfl rfl)
theorem dL_law_806 : decode cL_law 806 = .ok (.iload_n 3, 1) := dk_29 (dk_at dksL_law_29 19 rfl rfl)
theorem dL_law_807 : decode cL_law 807 = .ok (.iconst 1, 1) := dk_4 (dk_at dksL_law_29 20 rfl rfl)
theorem dL_law_808 : decode cL_law 808 = .ok (.iadd, 1) := dk_96 (dk_at dksL_law_29 21 rfl rfl)
theorem dL_law_809 : decode cL_law 809 = .ok (.iaload, 1) := dk_46 (dk_at dksL_law_29 22 rfl rfl)
theorem dL_law_810 : decode cL_law 810 = .ok (.invokevirtual 105, 3) := dk_182 0 105 (dk_at dksL_law_30 0 rfl rfl)
theorem dL_law_813 : decode cL_law 813 = .ok (.if_icmp .eq 226, 3) := dk_159 0 226 (dk_at dksL_law_30 3 rfl rfl)
theorem dL_law_816 : decode cL_law 816 = .ok (.iconst 0, 1) := dk_3 (dk_at dksL_law_30 6 rfl rfl)
theorem dL_law_817 : decode cL_law 817 = .ok (.ireturn, 1) := dk_172 (dk_at dksL_law_30 7 rfl rfl)
theorem dL_law_818 : decode cL_law 818 = .ok (.aload_n 1, 1) := dk_43 (dk_at dksL_law_30 8 rfl rfl)
theorem dL_law_819 : decode cL_law 819 = .ok (.aload_n 0, 1) := dk_42 (dk_at dksL_law_30 9 rfl rfl)
theorem dL_law_820 : decode cL_law 820 = .ok (.iload_n 3, 1) := dk_29 (dk_at dksL_law_30 10 rfl rfl)
theorem dL_law_821 : decode cL_law 821 = .ok (.iconst 1, 1) := dk_4 (dk_at dksL_law_30 11 rfl rfl)
theorem dL_law_822 : decode cL_law 822 = .ok (.iadd, 1) := dk_96 (dk_at dksL_law_30 12 rfl rfl)
theorem dL_law_823 : decode cL_law 823 = .ok (.iaload, 1) := dk_46 (dk_at dksL_law_30 13 rfl rfl)
theorem dL_law_824 : decode cL_law 824 = .ok (.invokevirtual 106, 3) := dk_182 0 106 (dk_at dksL_law_30 14 rfl rfl)
theorem dL_law_827 : decode cL_law 827 = .ok (.aload_n 2, 1) := dk_44 (dk_at dksL_law_30 17 rfl rfl)
theorem dL_law_828 : decode cL_law 828 = .ok (.aload_n 0, 1) := dk_42 (dk_at dksL_law_30 18 rfl rfl)
theorem dL_law_829 : decode cL_law 829 = .ok (.iload_n 3, 1) := dk_29 (dk_at dksL_law_30 19 rfl rfl)
theorem dL_law_830 : decode cL_law 830 = .ok (.iconst 1, 1) := dk_4 (dk_at dksL_law_30 20 rfl rfl)
theorem dL_law_831 : decode cL_law 831 = .ok (.iadd, 1) := dk_96 (dk_at dksL_law_30 21 rfl rfl)
theorem dL_law_832 : decode cL_law 832 = .ok (.iaload, 1) := dk_46 (dk_at dksL_law_30 22 rfl rfl)
theorem dL_law_833 : decode cL_law 833 = .ok (.invokevirtual 109, 3) := dk_182 0 109 (dk_at dksL_law_31 0 rfl rfl)
theorem dL_law_836 : decode cL_law 836 = .ok (.if_icmp .eq 203, 3) := dk_159 0 203 (dk_at dksL_law_31 3 rfl rfl)
theorem dL_law_839 : decode cL_law 839 = .ok (.iconst 0, 1) := dk_3 (dk_at dksL_law_31 6 rfl rfl)
theorem dL_law_840 : decode cL_law 840 = .ok (.ireturn, 1) := dk_172 (dk_at dksL_law_31 7 rfl rfl)
theorem dL_law_841 : decode cL_law 841 = .ok (.aload_n 1, 1) := dk_43 (dk_at dksL_law_31 8 rfl rfl)
theorem dL_law_842 : decode cL_law 842 = .ok (.aload_n 0, 1) := dk_42 (dk_at dksL_law_31 9 rfl rfl)
theorem dL_law_843 : decode cL_law 843 = .ok (.iload_n 3, 1) := dk_29 (dk_at dksL_law_31 10 rfl rfl)
theorem dL_law_844 : decode cL_law 844 = .ok (.iconst 1, 1) := dk_4 (dk_at dksL_law_31 11 rfl rfl)
theorem dL_law_845 : decode cL_law 845 = .ok (.iadd, 1) := dk_96 (dk_at dksL_law_31 12 rfl rfl)
theorem dL_law_846 : decode cL_law 846 = .ok (.iaload, 1) := dk_46 (dk_at dksL_law_31 13 rfl rfl)
theorem dL_law_847 : decode cL_law 847 = .ok (.ifCond .eq 7, 3) := dk_153 0 7 (dk_at dksL_law_31 14 rfl rfl)
theorem dL_law_850 : decode cL_law 850 = .ok (.iconst 1, 1) := dk_4 (dk_at dksL_law_31 17 rfl rfl)
theorem dL_law_851 : decode cL_law 851 = .ok (.goto 4, 3) := dk_167 0 4 (dk_at dksL_law_31 18 rfl rfl)
theorem dL_law_854 : decode cL_law 854 = .ok (.iconst 0, 1) := dk_3 (dk_at dksL_law_31 21 rfl rfl)
theorem dL_law_855 : decode cL_law 855 = .ok (.invokevirtual 110, 3) := dk_182 0 110 (dk_at dksL_law_32 0 rfl rfl)
theorem dL_law_858 : decode cL_law 858 = .ok (.aload_n 2, 1) := dk_44 (dk_at dksL_law_32 3 rfl rfl)
theorem dL_law_859 : decode cL_law 859 = .ok (.aload_n 0, 1) := dk_42 (dk_at dksL_law_32 4 rfl rfl)
theorem dL_law_860 : decode cL_law 860 = .ok (.iload_n 3, 1) := dk_29 (dk_at dksL_law_32 5 rfl rfl)
theorem dL_law_861 : decode cL_law 861 = .ok (.iconst 1, 1) := dk_4 (dk_at dksL_law_32 6 rfl rfl)
theorem dL_law_862 : decode cL_law 862 = .ok (.iadd, 1) := dk_96 (dk_at dksL_law_32 7 rfl rfl)
theorem dL_law_863 : decode cL_law 863 = .ok (.iaload, 1) := dk_46 (dk_at dksL_law_32 8 rfl rfl)
theorem dL_law_864 : decode cL_law 864 = .ok (.ifCond .eq 7, 3) := dk_153 0 7 (dk_at dksL_law_32 9 rfl rfl)
theorem dL_law_867 : decode cL_law 867 = .ok (.iconst 1, 1) := dk_4 (dk_at dksL_law_32 12 rfl rfl)
theorem dL_law_868 : decode cL_law 868 = .ok (.goto 4, 3) := dk_167 0 4 (dk_at dksL_law_32 13 rfl rfl)
theorem dL_law_871 : decode cL_law 871 = .ok (.iconst 0, 1) := dk_3 (dk_at dksL_law_32 16 rfl rfl)
theorem dL_law_872 : decode cL_law 872 = .ok (.invokevirtual 114, 3) := dk_182 0 114 (dk_at dksL_law_32 17 rfl rfl)
theorem dL_law_875 : decode cL_law 875 = .ok (.if_icmp .eq 164, 3) := dk_159 0 164 (dk_at dksL_law_32 20 rfl rfl)
theorem dL_law_878 : decode cL_law 878 = .ok (.iconst 0, 1) := dk_3 (dk_at dksL_law_32 23 rfl rfl)
theorem dL_law_879 : decode cL_law 879 = .ok (.ireturn, 1) := dk_172 (dk_at dksL_law_33 0 rfl rfl)
theorem dL_law_880 : decode cL_law 880 = .ok (.aload_n 1, 1) := dk_43 (dk_at dksL_law_33 1 rfl rfl)
theorem dL_law_881 : decode cL_law 881 = .ok (.aload_n 0, 1) := dk_42 (dk_at dksL_law_33 2 rfl rfl)
theorem dL_law_882 : decode cL_law 882 = .ok (.iload_n 3, 1) := dk_29 (dk_at dksL_law_33 3 rfl rfl)
theorem dL_law_883 : decode cL_law 883 = .ok (.iconst 1, 1) := dk_4 (dk_at dksL_law_33 4 rfl rfl)
theorem dL_law_884 : decode cL_law 884 = .ok (.iadd, 1) := dk_96 (dk_at dksL_law_33 5 rfl rfl)
theorem dL_law_885 : decode cL_law 885 = .ok (.iaload, 1) := dk_46 (dk_at dksL_law_33 6 rfl rfl)
theorem dL_law_886 : decode cL_law 886 = .ok (.invokevirtual 115, 3) := dk_182 0 115 (dk_at dksL_law_33 7 rfl rfl)
theorem dL_law_889 : decode cL_law 889 = .ok (.aload_n 2, 1) := dk_44 (dk_at dksL_law_33 10 rfl rfl)
theorem dL_law_890 : decode cL_law 890 = .ok (.aload_n 0, 1) := dk_42 (dk_at dksL_law_33 11 rfl rfl)
theorem dL_law_891 : decode cL_law 891 = .ok (.iload_n 3, 1) := dk_29 (dk_at dksL_law_33 12 rfl rfl)
theorem dL_law_892 : decode cL_law 892 = .ok (.iconst 1, 1) := dk_4 (dk_at dksL_law_33 13 rfl rfl)
theorem dL_law_893 : decode cL_law 893 = .ok (.iadd, 1) := dk_96 (dk_at dksL_law_33 14 rfl rfl)
theorem dL_law_894 : decode cL_law 894 = .ok (.iaload, 1) := dk_46 (dk_at dksL_law_33 15 rfl rfl)
theorem dL_law_895 : decode cL_law 895 = .ok (.invokevirtual 118, 3) := dk_182 0 118 (dk_at dksL_law_33 16 rfl rfl)
theorem dL_law_898 : decode cL_law 898 = .ok (.if_icmp .eq 141, 3) := dk_159 0 141 (dk_at dksL_law_33 19 rfl rfl)
theorem dL_law_901 : decode cL_law 901 = .ok (.iconst 0, 1) := dk_3 (dk_at dksL_law_33 22 rfl rfl)
theorem dL_law_902 : decode cL_law 902 = .ok (.ireturn, 1) := dk_172 (dk_at dksL_law_33 23 rfl rfl)
theorem dL_law_903 : decode cL_law 903 = .ok (.aload_n 1, 1) := dk_43 (dk_at dksL_law_34 0 rfl rfl)
theorem dL_law_904 : decode cL_law 904 = .ok (.invokevirtual 119, 3) := dk_182 0 119 (dk_at dksL_law_34 1 rfl rfl)
theorem dL_law_907 : decode cL_law 907 = .ok (.aload_n 2, 1) := dk_44 (dk_at dksL_law_34 4 rfl rfl)
theorem dL_law_908 : decode cL_law 908 = .ok (.invokevirtual 122, 3) := dk_182 0 122 (dk_at dksL_law_34 5 rfl rfl)
theorem dL_law_911 : decode cL_law 911 = .ok (.if_icmp .eq 128, 3) := dk_159 0 128 (dk_at dksL_law_34 8 rfl rfl)
theorem dL_law_914 : decode cL_law 914 = .ok (.iconst 0, 1) := dk_3 (dk_at dksL_law_34 11 rfl rfl)
theorem dL_law_915 : decode cL_law 915 = .ok (.ireturn, 1) := dk_172 (dk_at dksL_law_34 12 rfl rfl)
theorem dL_law_916 : decode cL_law 916 = .ok (.aload_n 1, 1) := dk_43 (dk_at dksL_law_34 13 rfl rfl)
theorem dL_law_917 : decode cL_law 917 = .ok (.invokevirtual 123, 3) := dk_182 0 123 (dk_at dksL_law_34 14 rfl rfl)
theorem dL_law_920 : decode cL_law 920 = .ok (.dstore 4, 2) := dk_57 4 (dk_at dksL_law_34 17 rfl rfl)
theorem dL_law_922 : decode cL_law 922 = .ok (.aload_n 2, 1) := dk_44 (dk_at dksL_law_34 19 rfl rfl)
theorem dL_law_923 : decode cL_law 923 = .ok (.invokevirtual 127, 3) := dk_182 0 127 (dk_at dksL_law_34 20 rfl rfl)
theorem dL_law_926 : decode cL_law 926 = .ok (.dstore 6, 2) := dk_57 6 (dk_at dksL_law_35 0 rfl rfl)
theorem dL_law_928 : decode cL_law 928 = .ok (.dload 4, 2) := dk_24 4 (dk_at dksL_law_35 2 rfl rfl)
theorem dL_law_930 : decode cL_law 930 = .ok (.dload 6, 2) := dk_24 6 (dk_at dksL_law_35 4 rfl rfl)
theorem dL_law_932 : decode cL_law 932 = .ok (.dcmp .l, 1) := dk_151 (dk_at dksL_law_35 6 rfl rfl)
theorem dL_law_933 : decode cL_law 933 = .ok (.ifCond .eq 21, 3) := dk_153 0 21 (dk_at dksL_law_35 7 rfl rfl)
theorem dL_law_936 : decode cL_law 936 = .ok (.dload 4, 2) := dk_24 4 (dk_at dksL_law_35 10 rfl rfl)
theorem dL_law_938 : decode cL_law 938 = .ok (.dload 4, 2) := dk_24 4 (dk_at dksL_law_35 12 rfl rfl)
theorem dL_law_940 : decode cL_law 940 = .ok (.dcmp .l, 1) := dk_151 (dk_at dksL_law_35 14 rfl rfl)
theorem dL_law_941 : decode cL_law 941 = .ok (.ifCond .eq 11, 3) := dk_153 0 11 (dk_at dksL_law_35 15 rfl rfl)
theorem dL_law_944 : decode cL_law 944 = .ok (.dload 6, 2) := dk_24 6 (dk_at dksL_law_35 18 rfl rfl)
theorem dL_law_946 : decode cL_law 946 = .ok (.dload 6, 2) := dk_24 6 (dk_at dksL_law_35 20 rfl rfl)
theorem dL_law_948 : decode cL_law 948 = .ok (.dcmp .l, 1) := dk_151 (dk_at dksL_law_35 22 rfl rfl)
theorem dL_law_949 : decode cL_law 949 = .ok (.ifCond .ne 5, 3) := dk_154 0 5 (dk_at dksL_law_36 0 rfl rfl)
theorem dL_law_952 : decode cL_law 952 = .ok (.iconst 0, 1) := dk_3 (dk_at dksL_law_36 3 rfl rfl)
theorem dL_law_953 : decode cL_law 953 = .ok (.ireturn, 1) := dk_172 (dk_at dksL_law_36 4 rfl rfl)
theorem dL_law_954 : decode cL_law 954 = .ok (.goto 85, 3) := dk_167 0 85 (dk_at dksL_law_36 5 rfl rfl)
theorem dL_law_957 : decode cL_law 957 = .ok (.aload_n 1, 1) := dk_43 (dk_at dksL_law_36 8 rfl rfl)
theorem dL_law_958 : decode cL_law 958 = .ok (.invokevirtual 128, 3) := dk_182 0 128 (dk_at dksL_law_36 9 rfl rfl)
theorem dL_law_961 : decode cL_law 961 = .ok (.f2d, 1) := dk_141 (dk_at dksL_law_36 12 rfl rfl)
theorem dL_law_962 : decode cL_law 962 = .ok (.dstore 4, 2) := dk_57 4 (dk_at dksL_law_36 13 rfl rfl)
theorem dL_law_964 : decode cL_law 964 = .ok (.aload_n 2, 1) := dk_44 (dk_at dksL_law_36 15 rfl rfl)
theorem dL_law_965 : decode cL_law 965 = .ok (.invokevirtual 132, 3) := dk_182 0 132 (dk_at dksL_law_36 16 rfl rfl)
theorem dL_law_968 : decode cL_law 968 = .ok (.f2d, 1) := dk_141 (dk_at dksL_law_36 19 rfl rfl)
theorem dL_law_969 : decode cL_law 969 = .ok (.dstore 6, 2) := dk_57 6 (dk_at dksL_law_36 20 rfl rfl)
theorem dL_law_971 : decode cL_law 971 = .ok (.dload 4, 2) := dk_24 4 (dk_at dksL_law_36 22 rfl rfl)
theorem dL_law_973 : decode cL_law 973 = .ok (.dload 6, 2) := dk_24 6 (dk_at dksL_law_37 0 rfl rfl)
theorem dL_law_975 : decode cL_law 975 = .ok (.dcmp .l, 1) := dk_151 (dk_at dksL_law_37 2 rfl rfl)
theorem dL_law_976 : decode cL_law 976 = .ok (.ifCond .eq 21, 3) := dk_153 0 21 (dk_at dksL_law_37 3 rfl rfl)
theorem dL_law_979 : decode cL_law 979 = .ok (.dload 4, 2) := dk_24 4 (dk_at dksL_law_37 6 rfl rfl)
theorem dL_law_981 : decode cL_law 981 = .ok (.dload 4, 2) := dk_24 4 (dk_at dksL_law_37 8 rfl rfl)
theorem dL_law_983 : decode cL_law 983 = .ok (.dcmp .l, 1) := dk_151 (dk_at dksL_law_37 10 rfl rfl)
theorem dL_law_984 : decode cL_law 984 = .ok (.ifCond .eq 11, 3) := dk_153 0 11 (dk_at dksL_law_37 11 rfl rfl)
theorem dL_law_987 : decode cL_law 987 = .ok (.dload 6, 2) := dk_24 6 (dk_at dksL_law_37 14 rfl rfl)
theorem dL_law_989 : decode cL_law 989 = .ok (.dload 6, 2) := dk_24 6 (dk_at dksL_law_37 16 rfl rfl)
theorem dL_law_991 : decode cL_law 991 = .ok (.dcmp .l, 1) := dk_151 (dk_at dksL_law_37 18 rfl rfl)
theorem dL_law_992 : decode cL_law 992 = .ok (.ifCond .ne 5, 3) := dk_154 0 5 (dk_at dksL_law_37 19 rfl rfl)
theorem dL_law_995 : decode cL_law 995 = .ok (.iconst 0, 1) := dk_3 (dk_at dksL_law_37 22 rfl rfl)
theorem dL_law_996 : decode cL_law 996 = .ok (.ireturn, 1) := dk_172 (dk_at dksL_law_37 23 rfl rfl)
theorem dL_law_997 : decode cL_law 997 = .ok (.goto 42, 3) := dk_167 0 42 (dk_at dksL_law_38 0 rfl rfl)
theorem dL_law_1000 : decode cL_law 1000 = .ok (.aload_n 1, 1) := dk_43 (dk_at dksL_law_38 3 rfl rfl)
theorem dL_law_1001 : decode cL_law 1001 = .ok (.invokevirtual 133, 3) := dk_182 0 133 (dk_at dksL_law_38 4 rfl rfl)
theorem dL_law_1004 : decode cL_law 1004 = .ok (.aload_n 2, 1) := dk_44 (dk_at dksL_law_38 7 rfl rfl)
theorem dL_law_1005 : decode cL_law 1005 = .ok (.invokevirtual 136, 3) := dk_182 0 136 (dk_at dksL_law_38 8 rfl rfl)
theorem dL_law_1008 : decode cL_law 1008 = .ok (.if_icmp .eq 31, 3) := dk_159 0 31 (dk_at dksL_law_38 11 rfl rfl)
theorem dL_law_1011 : decode cL_law 1011 = .ok (.iconst 0, 1) := dk_3 (dk_at dksL_law_38 14 rfl rfl)
theorem dL_law_1012 : decode cL_law 1012 = .ok (.ireturn, 1) := dk_172 (dk_at dksL_law_38 15 rfl rfl)
theorem dL_law_1013 : decode cL_law 1013 = .ok (.aload_n 1, 1) := dk_43 (dk_at dksL_law_38 16 rfl rfl)
theorem dL_law_1014 : decode cL_law 1014 = .ok (.invokevirtual 137, 3) := dk_182 0 137 (dk_at dksL_law_38 17 rfl rfl)
theorem dL_law_1017 : decode cL_law 1017 = .ok (.aload_n 2, 1) := dk_44 (dk_at dksL_law_38 20 rfl rfl)
theorem dL_law_1018 : decode cL_law 1018 = .ok (.invokevirtual 140, 3) := dk_182 0 140 (dk_at dksL_law_38 21 rfl rfl)
theorem dL_law_1021 : decode cL_law 1021 = .ok (.if_icmp .eq 18, 3) := dk_159 0 18 (dk_at dksL_law_39 0 rfl rfl)
theorem dL_law_1024 : decode cL_law 1024 = .ok (.iconst 0, 1) := dk_3 (dk_at dksL_law_39 3 rfl rfl)
theorem dL_law_1025 : decode cL_law 1025 = .ok (.ireturn, 1) := dk_172 (dk_at dksL_law_39 4 rfl rfl)
theorem dL_law_1026 : decode cL_law 1026 = .ok (.aload_n 1, 1) := dk_43 (dk_at dksL_law_39 5 rfl rfl)
theorem dL_law_1027 : decode cL_law 1027 = .ok (.invokevirtual 141, 3) := dk_182 0 141 (dk_at dksL_law_39 6 rfl rfl)
theorem dL_law_1030 : decode cL_law 1030 = .ok (.aload_n 2, 1) := dk_44 (dk_at dksL_law_39 9 rfl rfl)
theorem dL_law_1031 : decode cL_law 1031 = .ok (.invokevirtual 144, 3) := dk_182 0 144 (dk_at dksL_law_39 10 rfl rfl)
theorem dL_law_1034 : decode cL_law 1034 = .ok (.if_icmp .eq 5, 3) := dk_159 0 5 (dk_at dksL_law_39 13 rfl rfl)
theorem dL_law_1037 : decode cL_law 1037 = .ok (.iconst 0, 1) := dk_3 (dk_at dksL_law_39 16 rfl rfl)
theorem dL_law_1038 : decode cL_law 1038 = .ok (.ireturn, 1) := dk_172 (dk_at dksL_law_39 17 rfl rfl)
theorem dL_law_1039 : decode cL_law 1039 = .ok (.iinc 3 5, 3) := dk_132 3 5 (dk_at dksL_law_39 18 rfl rfl)
theorem dL_law_1042 : decode cL_law 1042 = .ok (.goto (-1024), 3) := dk_167 252 0 (dk_at dksL_law_39 21 rfl rfl)
theorem dL_law_1045 : decode cL_law 1045 = .ok (.iconst 1, 1) := dk_4 (dk_at dksL_law_40 0 rfl rfl)
theorem dL_law_1046 : decode cL_law 1046 = .ok (.ireturn, 1) := dk_172 (dk_at dksL_law_40 1 rfl rfl)
