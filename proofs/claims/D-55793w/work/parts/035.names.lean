/-! jdk/internal/util/ArraysSupport -/
set_option maxRecDepth 100000
def RJ9 : String := "jdk/internal/util/ArraysSupport"
abbrev cJ9_newLength : ByteArray := prog_76_method_27_code
def yJ9_newLength : MethodName := ⟨RJ9, "newLength", "(III)I"⟩
def dkwJ9_newLength_1 : List UInt8 := [184, 0, 201, 172]
abbrev dktJ9_newLength_1 : List UInt8 := dkwJ9_newLength_1 ++ []
def dkwJ9_newLength_0 : List UInt8 := [26, 27, 28, 184, 0, 194, 96, 62, 3, 29, 162, 0, 11, 29, 18, 200, 163, 0, 5, 29, 172, 26, 27]
abbrev dktJ9_newLength_0 : List UInt8 := dkwJ9_newLength_0 ++ dktJ9_newLength_1
theorem dksJ9_newLength_0 : cJ9_newLength.data.toList.drop 0 = dktJ9_newLength_0 := by decide +kernel
theorem dksJ9_newLength_1 : cJ9_newLength.data.toList.drop 23 = dktJ9_newLength_1 := dk_seg dksJ9_newLength_0 23 rfl rfl
theorem dJ9_newLength_0 : decode cJ9_newLength 0 = .ok (.iload_n 0, 1) := dk_26 (dk_at dksJ9_newLength_0 0 rfl rfl)
theorem dJ9_newLength_1 : decode cJ9_newLength 1 = .ok (.iload_n 1, 1) := dk_27 (dk_at dksJ9_newLength_0 1 rfl rfl)
theorem dJ9_newLength_2 : decode cJ9_newLength 2 = .ok (.iload_n 2, 1) := dk_28 (dk_at dksJ9_newLength_0 2 rfl rfl)
theorem dJ9_newLength_3 : decode cJ9_newLength 3 = .ok (.invokestatic 194, 3) := dk_184 0 194 (dk_at dksJ9_newLength_0 3 rfl rfl)
theorem dJ9_newLength_6 : decode cJ9_newLength 6 = .ok (.iadd, 1) := dk_96 (dk_at dksJ9_newLength_0 6 rfl rfl)
theorem dJ9_newLength_7 : decode cJ9_newLength 7 = .ok (.istore_n 3, 1) := dk_62 (dk_at dksJ9_newLength_0 7 rfl rfl)
theorem dJ9_newLength_8 : decode cJ9_newLength 8 = .ok (.iconst 0, 1) := dk_3 (dk_at dksJ9_newLength_0 8 rfl rfl)
theorem dJ9_newLength_9 : decode cJ9_newLength 9 = .ok (.iload_n 3, 1) := dk_29 (dk_at dksJ9_newLength_0 9 rfl rfl)
theorem dJ9_newLength_10 : decode cJ9_newLength 10 = .ok (.if_icmp .ge 11, 3) := dk_162 0 11 (dk_at dksJ9_newLength_0 10 rfl rfl)
theorem dJ9_newLength_13 : decode cJ9_newLength 13 = .ok (.iload_n 3, 1) := dk_29 (dk_at dksJ9_newLength_0 13 rfl rfl)
theorem dJ9_newLength_14 : decode cJ9_newLength 14 = .ok (.ldc 200, 2) := dk_18 200 (dk_at dksJ9_newLength_0 14 rfl rfl)
theorem dJ9_newLength_16 : decode cJ9_newLength 16 = .ok (.if_icmp .gt 5, 3) := dk_163 0 5 (dk_at dksJ9_newLength_0 16 rfl rfl)
theorem dJ9_newLength_19 : decode cJ9_newLength 19 = .ok (.iload_n 3, 1) := dk_29 (dk_at dksJ9_newLength_0 19 rfl rfl)
theorem dJ9_newLength_20 : decode cJ9_newLength 20 = .ok (.ireturn, 1) := dk_172 (dk_at dksJ9_newLength_0 20 rfl rfl)
theorem dJ9_newLength_21 : decode cJ9_newLength 21 = .ok (.iload_n 0, 1) := dk_26 (dk_at dksJ9_newLength_0 21 rfl rfl)
theorem dJ9_newLength_22 : decode cJ9_newLength 22 = .ok (.iload_n 1, 1) := dk_27 (dk_at dksJ9_newLength_0 22 rfl rfl)
theorem dJ9_newLength_23 : decode cJ9_newLength 23 = .ok (.invokestatic 201, 3) := dk_184 0 201 (dk_at dksJ9_newLength_1 0 rfl rfl)
theorem dJ9_newLength_26 : decode cJ9_newLength 26 = .ok (.ireturn, 1) := dk_172 (dk_at dksJ9_newLength_1 3 rfl rfl)
abbrev cJ9_hugeLength : ByteArray := prog_76_method_28_code
def yJ9_hugeLength : MethodName := ⟨RJ9, "hugeLength", "(II)I"⟩
def dkwJ9_hugeLength_2 : List UInt8 := [191, 28, 18, 200, 163, 0, 6, 18, 200, 172, 28, 172]
abbrev dktJ9_hugeLength_2 : List UInt8 := dkwJ9_hugeLength_2 ++ []
def dkwJ9_hugeLength_1 : List UInt8 := [26, 182, 0, 98, 18, 208, 182, 0, 94, 27, 182, 0, 98, 18, 210, 182, 0, 94, 182, 0, 101, 183, 0, 212]
abbrev dktJ9_hugeLength_1 : List UInt8 := dkwJ9_hugeLength_1 ++ dktJ9_hugeLength_2
def dkwJ9_hugeLength_0 : List UInt8 := [26, 27, 96, 61, 28, 156, 0, 44, 187, 0, 204, 89, 187, 0, 89, 89, 183, 0, 91, 18, 206, 182, 0, 94]
abbrev dktJ9_hugeLength_0 : List UInt8 := dkwJ9_hugeLength_0 ++ dktJ9_hugeLength_1
theorem dksJ9_hugeLength_0 : cJ9_hugeLength.data.toList.drop 0 = dktJ9_hugeLength_0 := by decide +kernel
theorem dksJ9_hugeLength_1 : cJ9_hugeLength.data.toList.drop 24 = dktJ9_hugeLength_1 := dk_seg dksJ9_hugeLength_0 24 rfl rfl
theorem dksJ9_hugeLength_2 : cJ9_hugeLength.data.toList.drop 48 = dktJ9_hugeLength_2 := dk_seg dksJ9_hugeLength_1 24 rfl rfl
theorem dJ9_hugeLength_0 : decode cJ9_hugeLength 0 = .ok (.iload_n 0, 1) := dk_26 (dk_at dksJ9_hugeLength_0 0 rfl rfl)
theorem dJ9_hugeLength_1 : decode cJ9_hugeLength 1 = .ok (.iload_n 1, 1) := dk_27 (dk_at dksJ9_hugeLength_0 1 rfl rfl)
theorem dJ9_hugeLength_2 : decode cJ9_hugeLength 2 = .ok (.iadd, 1) := dk_96 (dk_at dksJ9_hugeLength_0 2 rfl rfl)
theorem dJ9_hugeLength_3 : decode cJ9_hugeLength 3 = .ok (.istore_n 2, 1) := dk_61 (dk_at dksJ9_hugeLength_0 3 rfl rfl)
theorem dJ9_hugeLength_4 : decode cJ9_hugeLength 4 = .ok (.iload_n 2, 1) := dk_28 (dk_at dksJ9_hugeLength_0 4 rfl rfl)
theorem dJ9_hugeLength_5 : decode cJ9_hugeLength 5 = .ok (.ifCond .ge 44, 3) := dk_156 0 44 (dk_at dksJ9_hugeLength_0 5 rfl rfl)
theorem dJ9_hugeLength_8 : decode cJ9_hugeLength 8 = .ok (.new 204, 3) := dk_187 0 204 (dk_at dksJ9_hugeLength_0 8 rfl rfl)
theorem dJ9_hugeLength_11 : decode cJ9_hugeLength 11 = .ok (.dup, 1) := dk_89 (dk_at dksJ9_hugeLength_0 11 rfl rfl)
theorem dJ9_hugeLength_12 : decode cJ9_hugeLength 12 = .ok (.new 89, 3) := dk_187 0 89 (dk_at dksJ9_hugeLength_0 12 rfl rfl)
theorem dJ9_hugeLength_15 : decode cJ9_hugeLength 15 = .ok (.dup, 1) := dk_89 (dk_at dksJ9_hugeLength_0 15 rfl rfl)
theorem dJ9_hugeLength_16 : decode cJ9_hugeLength 16 = .ok (.invokespecial 91, 3) := dk_183 0 91 (dk_at dksJ9_hugeLength_0 16 rfl rfl)
theorem dJ9_hugeLength_19 : decode cJ9_hugeLength 19 = .ok (.ldc 206, 2) := dk_18 206 (dk_at dksJ9_hugeLength_0 19 rfl rfl)
theorem dJ9_hugeLength_21 : decode cJ9_hugeLength 21 = .ok (.invokevirtual 94, 3) := dk_182 0 94 (dk_at dksJ9_hugeLength_0 21 rfl rfl)
theorem dJ9_hugeLength_24 : decode cJ9_hugeLength 24 = .ok (.iload_n 0, 1) := dk_26 (dk_at dksJ9_hugeLength_1 0 rfl rfl)
theorem dJ9_hugeLength_25 : decode cJ9_hugeLength 25 = .ok (.invokevirtual 98, 3) := dk_182 0 98 (dk_at dksJ9_hugeLength_1 1 rfl rfl)
theorem dJ9_hugeLength_28 : decode cJ9_hugeLength 28 = .ok (.ldc 208, 2) := dk_18 208 (dk_at dksJ9_hugeLength_1 4 rfl rfl)
theorem dJ9_hugeLength_30 : decode cJ9_hugeLength 30 = .ok (.invokevirtual 94, 3) := dk_182 0 94 (dk_at dksJ9_hugeLength_1 6 rfl rfl)
theorem dJ9_hugeLength_33 : decode cJ9_hugeLength 33 = .ok (.iload_n 1, 1) := dk_27 (dk_at dksJ9_hugeLength_1 9 rfl rfl)
theorem dJ9_hugeLength_34 : decode cJ9_hugeLength 34 = .ok (.invokevirtual 98, 3) := dk_182 0 98 (dk_at dksJ9_hugeLength_1 10 rfl rfl)
theorem dJ9_hugeLength_37 : decode cJ9_hugeLength 37 = .ok (.ldc 210, 2) := dk_18 210 (dk_at dksJ9_hugeLength_1 13 rfl rfl)
theorem dJ9_hugeLength_39 : decode cJ9_hugeLength 39 = .ok (.invokevirtual 94, 3) := dk_182 0 94 (dk_at dksJ9_hugeLength_1 15 rfl rfl)
theorem dJ9_hugeLength_42 : decode cJ9_hugeLength 42 = .ok (.invokevirtual 101, 3) := dk_182 0 101 (dk_at dksJ9_hugeLength_1 18 rfl rfl)
theorem dJ9_hugeLength_45 : decode cJ9_hugeLength 45 = .ok (.invokespecial 212, 3) := dk_183 0 212 (dk_at dksJ9_hugeLength_1 21 rfl rfl)
theorem dJ9_hugeLength_48 : decode cJ9_hugeLength 48 = .ok (.athrow, 1) := dk_191 (dk_at dksJ9_hugeLength_2 0 rfl rfl)
theorem dJ9_hugeLength_49 : decode cJ9_hugeLength 49 = .ok (.iload_n 2, 1) := dk_28 (dk_at dksJ9_hugeLength_2 1 rfl rfl)
theorem dJ9_hugeLength_50 : decode cJ9_hugeLength 50 = .ok (.ldc 200, 2) := dk_18 200 (dk_at dksJ9_hugeLength_2 2 rfl rfl)
theorem dJ9_hugeLength_52 : decode cJ9_hugeLength 52 = .ok (.if_icmp .gt 6, 3) := dk_163 0 6 (dk_at dksJ9_hugeLength_2 4 rfl rfl)
theorem dJ9_hugeLength_55 : decode cJ9_hugeLength 55 = .ok (.ldc 200, 2) := dk_18 200 (dk_at dksJ9_hugeLength_2 7 rfl rfl)
theorem dJ9_hugeLength_57 : decode cJ9_hugeLength 57 = .ok (.ireturn, 1) := dk_172 (dk_at dksJ9_hugeLength_2 9 rfl rfl)
theorem dJ9_hugeLength_58 : decode cJ9_hugeLength 58 = .ok (.iload_n 2, 1) := dk_28 (dk_at dksJ9_hugeLength_2 10 rfl rfl)
theorem dJ9_hugeLength_59 : decode cJ9_hugeLength 59 = .ok (.ireturn, 1) := dk_172 (dk_at dksJ9_hugeLength_2 11 rfl rfl)
abbrev cJ9_vectorizedHashCode : ByteArray := prog_76_method_4_code
def yJ9_vectorizedHashCode : MethodName := ⟨RJ9, "vectorizedHashCode", "(Ljava/lang/Object;IIII)I"⟩
def dkwJ9_vectorizedHashCode_6 : List UInt8 := [183, 0, 91, 18, 92, 182, 0, 94, 21, 4, 182, 0, 98, 182, 0, 101, 183, 0, 105, 191, 172]
abbrev dktJ9_vectorizedHashCode_6 : List UInt8 := dkwJ9_vectorizedHashCode_6 ++ []
def dkwJ9_vectorizedHashCode_5 : List UInt8 := [167, 0, 44, 29, 42, 192, 0, 82, 27, 28, 184, 0, 84, 167, 0, 31, 187, 0, 87, 89, 187, 0, 89, 89]
abbrev dktJ9_vectorizedHashCode_5 : List UInt8 := dkwJ9_vectorizedHashCode_5 ++ dktJ9_vectorizedHashCode_6
def dkwJ9_vectorizedHashCode_4 : List UInt8 := [29, 42, 192, 0, 60, 27, 28, 184, 0, 75, 167, 0, 57, 29, 42, 192, 0, 77, 27, 28, 184, 0, 79]
abbrev dktJ9_vectorizedHashCode_4 : List UInt8 := dkwJ9_vectorizedHashCode_4 ++ dktJ9_vectorizedHashCode_5
def dkwJ9_vectorizedHashCode_3 : List UInt8 := [192, 0, 60, 27, 28, 184, 0, 66, 167, 0, 83, 29, 42, 192, 0, 69, 27, 28, 184, 0, 71, 167, 0, 70]
abbrev dktJ9_vectorizedHashCode_3 : List UInt8 := dkwJ9_vectorizedHashCode_3 ++ dktJ9_vectorizedHashCode_4
def dkwJ9_vectorizedHashCode_2 : List UInt8 := [29, 42, 192, 0, 60, 27, 28, 184, 0, 62, 167, 0, 103, 42, 193, 0, 60, 153, 0, 16, 29, 42]
abbrev dktJ9_vectorizedHashCode_2 : List UInt8 := dkwJ9_vectorizedHashCode_2 ++ dktJ9_vectorizedHashCode_3
def dkwJ9_vectorizedHashCode_1 : List UInt8 := [170, 0, 0, 0, 0, 127, 0, 0, 0, 4, 0, 0, 0, 10, 0, 0, 0, 42, 0, 0, 0, 55, 0, 0, 0, 127, 0, 0, 0, 127, 0, 0, 0, 88, 0, 0, 0, 101, 0, 0, 0, 114]
abbrev dktJ9_vectorizedHashCode_1 : List UInt8 := dkwJ9_vectorizedHashCode_1 ++ dktJ9_vectorizedHashCode_2
def dkwJ9_vectorizedHashCode_0 : List UInt8 := [21, 4]
abbrev dktJ9_vectorizedHashCode_0 : List UInt8 := dkwJ9_vectorizedHashCode_0 ++ dktJ9_vectorizedHashCode_1
theorem dksJ9_vectorizedHashCode_0 : cJ9_vectorizedHashCode.data.toList.drop 0 = dktJ9_vectorizedHashCode_0 := by decide +kernel
theorem dksJ9_vectorizedHashCode_1 : cJ9_vectorizedHashCode.data.toList.drop 2 = dktJ9_vectorizedHashCode_1 := dk_seg dksJ9_vectorizedHashCode_0 2 rfl rfl
theorem dksJ9_vectorizedHashCode_2 : cJ9_vectorizedHashCode.data.toList.drop 44 = dktJ9_vectorizedHashCode_2 := dk_seg dksJ9_vectorizedHashCode_1 42 rfl rfl
theorem dksJ9_vectorizedHashCode_3 : cJ9_vectorizedHashCode.data.toList.drop 66 = dktJ9_vectorizedHashCode_3 := dk_seg dksJ9_vectorizedHashCode_2 22 rfl rfl
theorem dksJ9_vectorizedHashCode_4 : cJ9_vectorizedHashCode.data.toList.drop 90 = dktJ9_vectorizedHashCode_4 := dk_seg dksJ9_vectorizedHashCode_3 24 rfl rfl
theorem dksJ9_vectorizedHashCode_5 : cJ9_vectorizedHashCode.data.toList.drop 113 = dktJ9_vectorizedHashCode_5 := dk_seg dksJ9_vectorizedHashCode_4 23 rfl rfl
theorem dksJ9_vectorizedHashCode_6 : cJ9_vectorizedHashCode.data.toList.drop 137 = dktJ9_vectorizedHashCode_6 := dk_seg dksJ9_vectorizedHashCode_5 24 rfl rfl
theorem dJ9_vectorizedHashCode_0 : decode cJ9_vectorizedHashCode 0 = .ok (.iload 4, 2) := dk_21 4 (dk_at dksJ9_vectorizedHashCode_0 0 rfl rfl)
theorem dJ9_vectorizedHashCode_2 : decode cJ9_vectorizedHashCode 2 = .ok (.tableswitch 127 4 10 #[42, 55, 127, 127, 88, 101, 114], 42) := by decide +kernel
theorem dJ9_vectorizedHashCode_44 : decode cJ9_vectorizedHashCode 44 = .ok (.iload_n 3, 1) := dk_29 (dk_at dksJ9_vectorizedHashCode_2 0 rfl rfl)
theorem dJ9_vectorizedHashCode_45 : decode cJ9_vectorizedHashCode 45 = .ok (.aload_n 0, 1) := dk_42 (dk_at dksJ9_vectorizedHashCode_2 1 rfl rfl)
theorem dJ9_vectorizedHashCode_46 : decode cJ9_vectorizedHashCode 46 = .ok (.checkcast 60, 3) := dk_192 0 60 (dk_at dksJ9_vectorizedHashCode_2 2 rfl rfl)
theorem dJ9_vectorizedHashCode_49 : decode cJ9_vectorizedHashCode 49 = .ok (.iload_n 1, 1) := dk_27 (dk_at dksJ9_vectorizedHashCode_2 5 rfl rfl)
theorem dJ9_vectorizedHashCode_50 : decode cJ9_vectorizedHashCode 50 = .ok (.iload_n 2, 1) := dk_28 (dk_at dksJ9_vectorizedHashCode_2 6 rfl rfl)
theorem dJ9_vectorizedHashCode_51 : decode cJ9_vectorizedHashCode 51 = .ok (.invokestatic 62, 3) := dk_184 0 62 (dk_at dksJ9_vectorizedHashCode_2 7 rfl rfl)
theorem dJ9_vectorizedHashCode_54 : decode cJ9_vectorizedHashCode 54 = .ok (.goto 103, 3) := dk_167 0 103 (dk_at dksJ9_vectorizedHashCode_2 10 rfl rfl)
theorem dJ9_vectorizedHashCode_57 : decode cJ9_vectorizedHashCode 57 = .ok (.aload_n 0, 1) := dk_42 (dk_at dksJ9_vectorizedHashCode_2 13 rfl rfl)
theorem dJ9_vectorizedHashCode_58 : decode cJ9_vectorizedHashCode 58 = .ok (.instanceof 60, 3) := dk_193 0 60 (dk_at dksJ9_vectorizedHashCode_2 14 rfl rfl)
theorem dJ9_vectorizedHashCode_61 : decode cJ9_vectorizedHashCode 61 = .ok (.ifCond .eq 16, 3) := dk_153 0 16 (dk_at dksJ9_vectorizedHashCode_2 17 rfl rfl)
theorem dJ9_vectorizedHashCode_64 : decode cJ9_vectorizedHashCode 64 = .ok (.iload_n 3, 1) := dk_29 (dk_at dksJ9_vectorizedHashCode_2 20 rfl rfl)
theorem dJ9_vectorizedHashCode_65 : decode cJ9_vectorizedHashCode 65 = .ok (.aload_n 0, 1) := dk_42 (dk_at dksJ9_vectorizedHashCode_2 21 rfl rfl)
theorem dJ9_vectorizedHashCode_66 : decode cJ9_vectorizedHashCode 66 = .ok (.checkcast 60, 3) := dk_192 0 60 (dk_at dksJ9_vectorizedHashCode_3 0 rfl rfl)
theorem dJ9_vectorizedHashCode_69 : decode cJ9_vectorizedHashCode 69 = .ok (.iload_n 1, 1) := dk_27 (dk_at dksJ9_vectorizedHashCode_3 3 rfl rfl)
theorem dJ9_vectorizedHashCode_70 : decode cJ9_vectorizedHashCode 70 = .ok (.iload_n 2, 1) := dk_28 (dk_at dksJ9_vectorizedHashCode_3 4 rfl rfl)
theorem dJ9_vectorizedHashCode_71 : decode cJ9_vectorizedHashCode 71 = .ok (.invokestatic 66, 3) := dk_184 0 66 (dk_at dksJ9_vectorizedHashCode_3 5 rfl rfl)
theorem dJ9_vectorizedHashCode_74 : decode cJ9_vectorizedHashCode 74 = .ok (.goto 83, 3) := dk_167 0 83 (dk_at dksJ9_vectorizedHashCode_3 8 rfl rfl)
theorem dJ9_vectorizedHashCode_77 : decode cJ9_vectorizedHashCode 77 = .ok (.iload_n 3, 1) := dk_29 (dk_at dksJ9_vectorizedHashCode_3 11 rfl rfl)
theorem dJ9_vectorizedHashCode_78 : decode cJ9_vectorizedHashCode 78 = .ok (.aload_n 0, 1) := dk_42 (dk_at dksJ9_vectorizedHashCode_3 12 rfl rfl)
theorem dJ9_vectorizedHashCode_79 : decode cJ9_vectorizedHashCode 79 = .ok (.checkcast 69, 3) := dk_192 0 69 (dk_at dksJ9_vectorizedHashCode_3 13 rfl rfl)
theorem dJ9_vectorizedHashCode_82 : decode cJ9_vectorizedHashCode 82 = .ok (.iload_n 1, 1) := dk_27 (dk_at dksJ9_vectorizedHashCode_3 16 rfl rfl)
theorem dJ9_vectorizedHashCode_83 : decode cJ9_vectorizedHashCode 83 = .ok (.iload_n 2, 1) := dk_28 (dk_at dksJ9_vectorizedHashCode_3 17 rfl rfl)
theorem dJ9_vectorizedHashCode_84 : decode cJ9_vectorizedHashCode 84 = .ok (.invokestatic 71, 3) := dk_184 0 71 (dk_at dksJ9_vectorizedHashCode_3 18 rfl rfl)
theorem dJ9_vectorizedHashCode_87 : decode cJ9_vectorizedHashCode 87 = .ok (.goto 70, 3) := dk_167 0 70 (dk_at dksJ9_vectorizedHashCode_3 21 rfl rfl)
theorem dJ9_vectorizedHashCode_90 : decode cJ9_vectorizedHashCode 90 = .ok (.iload_n 3, 1) := dk_29 (dk_at dksJ9_vectorizedHashCode_4 0 rfl rfl)
theorem dJ9_vectorizedHashCode_91 : decode cJ9_vectorizedHashCode 91 = .ok (.aload_n 0, 1) := dk_42 (dk_at dksJ9_vectorizedHashCode_4 1 rfl rfl)
theorem dJ9_vectorizedHashCode_92 : decode cJ9_vectorizedHashCode 92 = .ok (.checkcast 60, 3) := dk_192 0 60 (dk_at dksJ9_vectorizedHashCode_4 2 rfl rfl)
theorem dJ9_vectorizedHashCode_95 : decode cJ9_vectorizedHashCode 95 = .ok (.iload_n 1, 1) := dk_27 (dk_at dksJ9_vectorizedHashCode_4 5 rfl rfl)
theorem dJ9_vectorizedHashCode_96 : decode cJ9_vectorizedHashCode 96 = .ok (.iload_n 2, 1) := dk_28 (dk_at dksJ9_vectorizedHashCode_4 6 rfl rfl)
theorem dJ9_vectorizedHashCode_97 : decode cJ9_vectorizedHashCode 97 = .ok (.invokestatic 75, 3) := dk_184 0 75 (dk_at dksJ9_vectorizedHashCode_4 7 rfl rfl)
theorem dJ9_vectorizedHashCode_100 : decode cJ9_vectorizedHashCode 100 = .ok (.goto 57, 3) := dk_167 0 57 (dk_at dksJ9_vectorizedHashCode_4 10 rfl rfl)
theorem dJ9_vectorizedHashCode_103 : decode cJ9_vectorizedHashCode 103 = .ok (.iload_n 3, 1) := dk_29 (dk_at dksJ9_vectorizedHashCode_4 13 rfl rfl)
theorem dJ9_vectorizedHashCode_104 : decode cJ9_vectorizedHashCode 104 = .ok (.aload_n 0, 1) := dk_42 (dk_at dksJ9_vectorizedHashCode_4 14 rfl rfl)
theorem dJ9_vectorizedHashCode_105 : decode cJ9_vectorizedHashCode 105 = .ok (.checkcast 77, 3) := dk_192 0 77 (dk_at dksJ9_vectorizedHashCode_4 15 rfl rfl)
theorem dJ9_vectorizedHashCode_108 : decode cJ9_vectorizedHashCode 108 = .ok (.iload_n 1, 1) := dk_27 (dk_at dksJ9_vectorizedHashCode_4 18 rfl rfl)
theorem dJ9_vectorizedHashCode_109 : decode cJ9_vectorizedHashCode 109 = .ok (.iload_n 2, 1) := dk_28 (dk_at dksJ9_vectorizedHashCode_4 19 rfl rfl)
theorem dJ9_vectorizedHashCode_110 : decode cJ9_vectorizedHashCode 110 = .ok (.invokestatic 79, 3) := dk_184 0 79 (dk_at dksJ9_vectorizedHashCode_4 20 rfl rfl)
theorem dJ9_vectorizedHashCode_113 : decode cJ9_vectorizedHashCode 113 = .ok (.goto 44, 3) := dk_167 0 44 (dk_at dksJ9_vectorizedHashCode_5 0 rfl rfl)
theorem dJ9_vectorizedHashCode_116 : decode cJ9_vectorizedHashCode 116 = .ok (.iload_n 3, 1) := dk_29 (dk_at dksJ9_vectorizedHashCode_5 3 rfl rfl)
theorem dJ9_vectorizedHashCode_117 : decode cJ9_vectorizedHashCode 117 = .ok (.aload_n 0, 1) := dk_42 (dk_at dksJ9_vectorizedHashCode_5 4 rfl rfl)
theorem dJ9_vectorizedHashCode_118 : decode cJ9_vectorizedHashCode 118 = .ok (.checkcast 82, 3) := dk_192 0 82 (dk_at dksJ9_vectorizedHashCode_5 5 rfl rfl)
theorem dJ9_vectorizedHashCode_121 : decode cJ9_vectorizedHashCode 121 = .ok (.iload_n 1, 1) := dk_27 (dk_at dksJ9_vectorizedHashCode_5 8 rfl rfl)
theorem dJ9_vectorizedHashCode_122 : decode cJ9_vectorizedHashCode 122 = .ok (.iload_n 2, 1) := dk_28 (dk_at dksJ9_vectorizedHashCode_5 9 rfl rfl)
theorem dJ9_vectorizedHashCode_123 : decode cJ9_vectorizedHashCode 123 = .ok (.invokestatic 84, 3) := dk_184 0 84 (dk_at dksJ9_vectorizedHashCode_5 10 rfl rfl)
theorem dJ9_vectorizedHashCode_126 : decode cJ9_vectorizedHashCode 126 = .ok (.goto 31, 3) := dk_167 0 31 (dk_at dksJ9_vectorizedHashCode_5 13 rfl rfl)
theorem dJ9_vectorizedHashCode_129 : decode cJ9_vectorizedHashCode 129 = .ok (.new 87, 3) := dk_187 0 87 (dk_at dksJ9_vectorizedHashCode_5 16 rfl rfl)
theorem dJ9_vectorizedHashCode_132 : decode cJ9_vectorizedHashCode 132 = .ok (.dup, 1) := dk_89 (dk_at dksJ9_vectorizedHashCode_5 19 rfl rfl)
theorem dJ9_vectorizedHashCode_133 : decode cJ9_vectorizedHashCode 133 = .ok (.new 89, 3) := dk_187 0 89 (dk_at dksJ9_vectorizedHashCode_5 20 rfl rfl)
theorem dJ9_vectorizedHashCode_136 : decode cJ9_vectorizedHashCode 136 = .ok (.dup, 1) := dk_89 (dk_at dksJ9_vectorizedHashCode_5 23 rfl rfl)
theorem dJ9_vectorizedHashCode_137 : decode cJ9_vectorizedHashCode 137 = .ok (.invokespecial 91, 3) := dk_183 0 91 (dk_at dksJ9_vectorizedHashCode_6 0 rfl rfl)
theorem dJ9_vectorizedHashCode_140 : decode cJ9_vectorizedHashCode 140 = .ok (.ldc 92, 2) := dk_18 92 (dk_at dksJ9_vectorizedHashCode_6 3 rfl rfl)
theorem dJ9_vectorizedHashCode_142 : decode cJ9_vectorizedHashCode 142 = .ok (.invokevirtual 94, 3) := dk_182 0 94 (dk_at dksJ9_vectorizedHashCode_6 5 rfl rfl)
theorem dJ9_vectorizedHashCode_145 : decode cJ9_vectorizedHashCode 145 = .ok (.iload 4, 2) := dk_21 4 (dk_at dksJ9_vectorizedHashCode_6 8 rfl rfl)
theorem dJ9_vectorizedHashCode_147 : decode cJ9_vectorizedHashCode 147 = .ok (.invokevirtual 98, 3) := dk_182 0 98 (dk_at dksJ9_vectorizedHashCode_6 10 rfl rfl)
theorem dJ9_vectorizedHashCode_150 : decode cJ9_vectorizedHashCode 150 = .ok (.invokevirtual 101, 3) := dk_182 0 101 (dk_at dksJ9_vectorizedHashCode_6 13 rfl rfl)
theorem dJ9_vectorizedHashCode_153 : decode cJ9_vectorizedHashCode 153 = .ok (.invokespecial 105, 3) := dk_183 0 105 (dk_at dksJ9_vectorizedHashCode_6 16 rfl rfl)
theorem dJ9_vectorizedHashCode_156 : decode cJ9_vectorizedHashCode 156 = .ok (.athrow, 1) := dk_191 (dk_at dksJ9_vectorizedHashCode_6 19 rfl rfl)
theorem dJ9_vectorizedHashCode_157 : decode cJ9_vectorizedHashCode 157 = .ok (.ireturn, 1) := dk_172 (dk_at dksJ9_vectorizedHashCode_6 20 rfl rfl)
abbrev cJ9_signedHashCode : ByteArray := prog_76_method_5_code
def yJ9_signedHashCode : MethodName := ⟨RJ9, "signedHashCode", "(I[BII)I"⟩
def dkwJ9_signedHashCode_1 : List UInt8 := [17, 0, 255, 126, 96, 59, 132, 5, 1, 167, 255, 232, 26, 172]
abbrev dktJ9_signedHashCode_1 : List UInt8 := dkwJ9_signedHashCode_1 ++ []
def dkwJ9_signedHashCode_0 : List UInt8 := [28, 29, 96, 54, 4, 28, 54, 5, 21, 5, 21, 4, 162, 0, 23, 16, 31, 26, 104, 43, 21, 5, 51]
abbrev dktJ9_signedHashCode_0 : List UInt8 := dkwJ9_signedHashCode_0 ++ dktJ9_signedHashCode_1
theorem dksJ9_signedHashCode_0 : cJ9_signedHashCode.data.toList.drop 0 = dktJ9_signedHashCode_0 := by decide +kernel
theorem dksJ9_signedHashCode_1 : cJ9_signedHashCode.data.toList.drop 23 = dktJ9_signedHashCode_1 := dk_seg dksJ9_signedHashCode_0 23 rfl rfl
theorem dJ9_signedHashCode_0 : decode cJ9_signedHashCode 0 = .ok (.iload_n 2, 1) := dk_28 (dk_at dksJ9_signedHashCode_0 0 rfl rfl)
theorem dJ9_signedHashCode_1 : decode cJ9_signedHashCode 1 = .ok (.iload_n 3, 1) := dk_29 (dk_at dksJ9_signedHashCode_0 1 rfl rfl)
theorem dJ9_signedHashCode_2 : decode cJ9_signedHashCode 2 = .ok (.iadd, 1) := dk_96 (dk_at dksJ9_signedHashCode_0 2 rfl rfl)
theorem dJ9_signedHashCode_3 : decode cJ9_signedHashCode 3 = .ok (.istore 4, 2) := dk_54 4 (dk_at dksJ9_signedHashCode_0 3 rfl rfl)
theorem dJ9_signedHashCode_5 : decode cJ9_signedHashCode 5 = .ok (.iload_n 2, 1) := dk_28 (dk_at dksJ9_signedHashCode_0 5 rfl rfl)
theorem dJ9_signedHashCode_6 : decode cJ9_signedHashCode 6 = .ok (.istore 5, 2) := dk_54 5 (dk_at dksJ9_signedHashCode_0 6 rfl rfl)
theorem dJ9_signedHashCode_8 : decode cJ9_signedHashCode 8 = .ok (.iload 5, 2) := dk_21 5 (dk_at dksJ9_signedHashCode_0 8 rfl rfl)
theorem dJ9_signedHashCode_10 : decode cJ9_signedHashCode 10 = .ok (.iload 4, 2) := dk_21 4 (dk_at dksJ9_signedHashCode_0 10 rfl rfl)
theorem dJ9_signedHashCode_12 : decode cJ9_signedHashCode 12 = .ok (.if_icmp .ge 23, 3) := dk_162 0 23 (dk_at dksJ9_signedHashCode_0 12 rfl rfl)
theorem dJ9_signedHashCode_15 : decode cJ9_signedHashCode 15 = .ok (.bipush 31, 2) := dk_16 31 (dk_at dksJ9_signedHashCode_0 15 rfl rfl)
theorem dJ9_signedHashCode_17 : decode cJ9_signedHashCode 17 = .ok (.iload_n 0, 1) := dk_26 (dk_at dksJ9_signedHashCode_0 17 rfl rfl)
theorem dJ9_signedHashCode_18 : decode cJ9_signedHashCode 18 = .ok (.imul, 1) := dk_104 (dk_at dksJ9_signedHashCode_0 18 rfl rfl)
theorem dJ9_signedHashCode_19 : decode cJ9_signedHashCode 19 = .ok (.aload_n 1, 1) := dk_43 (dk_at dksJ9_signedHashCode_0 19 rfl rfl)
theorem dJ9_signedHashCode_20 : decode cJ9_signedHashCode 20 = .ok (.iload 5, 2) := dk_21 5 (dk_at dksJ9_signedHashCode_0 20 rfl rfl)
theorem dJ9_signedHashCode_22 : decode cJ9_signedHashCode 22 = .ok (.baload, 1) := dk_51 (dk_at dksJ9_signedHashCode_0 22 rfl rfl)
theorem dJ9_signedHashCode_23 : decode cJ9_signedHashCode 23 = .ok (.sipush 255, 3) := dk_17 0 255 (dk_at dksJ9_signedHashCode_1 0 rfl rfl)
theorem dJ9_signedHashCode_26 : decode cJ9_signedHashCode 26 = .ok (.iand, 1) := dk_126 (dk_at dksJ9_signedHashCode_1 3 rfl rfl)
theorem dJ9_signedHashCode_27 : decode cJ9_signedHashCode 27 = .ok (.iadd, 1) := dk_96 (dk_at dksJ9_signedHashCode_1 4 rfl rfl)
theorem dJ9_signedHashCode_28 : decode cJ9_signedHashCode 28 = .ok (.istore_n 0, 1) := dk_59 (dk_at dksJ9_signedHashCode_1 5 rfl rfl)
theorem dJ9_signedHashCode_29 : decode cJ9_signedHashCode 29 = .ok (.iinc 5 1, 3) := dk_132 5 1 (dk_at dksJ9_signedHashCode_1 6 rfl rfl)
theorem dJ9_signedHashCode_32 : decode cJ9_signedHashCode 32 = .ok (.goto (-24), 3) := dk_167 255 232 (dk_at dksJ9_signedHashCode_1 9 rfl rfl)
theorem dJ9_signedHashCode_35 : decode cJ9_signedHashCode 35 = .ok (.iload_n 0, 1) := dk_26 (dk_at dksJ9_signedHashCode_1 12 rfl rfl)
theorem dJ9_signedHashCode_36 : decode cJ9_signedHashCode 36 = .ok (.ireturn, 1) := dk_172 (dk_at dksJ9_signedHashCode_1 13 rfl rfl)
abbrev cJ9_utf16hashCode : ByteArray := prog_76_method_10_code
def yJ9_utf16hashCode : MethodName := ⟨RJ9, "utf16hashCode", "(I[BII)I"⟩
def dkwJ9_utf16hashCode_1 : List UInt8 := [21, 5, 185, 0, 110, 3, 0, 96, 59, 132, 5, 1, 167, 255, 229, 26, 172]
abbrev dktJ9_utf16hashCode_1 : List UInt8 := dkwJ9_utf16hashCode_1 ++ []
def dkwJ9_utf16hashCode_0 : List UInt8 := [28, 29, 96, 54, 4, 28, 54, 5, 21, 5, 21, 4, 162, 0, 26, 16, 31, 26, 104, 178, 0, 106, 43]
abbrev dktJ9_utf16hashCode_0 : List UInt8 := dkwJ9_utf16hashCode_0 ++ dktJ9_utf16hashCode_1
theorem dksJ9_utf16hashCode_0 : cJ9_utf16hashCode.data.toList.drop 0 = dktJ9_utf16hashCode_0 := by decide +kernel
theorem dksJ9_utf16hashCode_1 : cJ9_utf16hashCode.data.toList.drop 23 = dktJ9_utf16hashCode_1 := dk_seg dksJ9_utf16hashCode_0 23 rfl rfl
theorem dJ9_utf16hashCode_0 : decode cJ9_utf16hashCode 0 = .ok (.iload_n 2, 1) := dk_28 (dk_at dksJ9_utf16hashCode_0 0 rfl rfl)
theorem dJ9_utf16hashCode_1 : decode cJ9_utf16hashCode 1 = .ok (.iload_n 3, 1) := dk_29 (dk_at dksJ9_utf16hashCode_0 1 rfl rfl)
theorem dJ9_utf16hashCode_2 : decode cJ9_utf16hashCode 2 = .ok (.iadd, 1) := dk_96 (dk_at dksJ9_utf16hashCode_0 2 rfl rfl)
theorem dJ9_utf16hashCode_3 : decode cJ9_utf16hashCode 3 = .ok (.istore 4, 2) := dk_54 4 (dk_at dksJ9_utf16hashCode_0 3 rfl rfl)
theorem dJ9_utf16hashCode_5 : decode cJ9_utf16hashCode 5 = .ok (.iload_n 2, 1) := dk_28 (dk_at dksJ9_utf16hashCode_0 5 rfl rfl)
theorem dJ9_utf16hashCode_6 : decode cJ9_utf16hashCode 6 = .ok (.istore 5, 2) := dk_54 5 (dk_at dksJ9_utf16hashCode_0 6 rfl rfl)
theorem dJ9_utf16hashCode_8 : decode cJ9_utf16hashCode 8 = .ok (.iload 5, 2) := dk_21 5 (dk_at dksJ9_utf16hashCode_0 8 rfl rfl)
theorem dJ9_utf16hashCode_10 : decode cJ9_utf16hashCode 10 = .ok (.iload 4, 2) := dk_21 4 (dk_at dksJ9_utf16hashCode_0 10 rfl rfl)
theorem dJ9_utf16hashCode_12 : decode cJ9_utf16hashCode 12 = .ok (.if_icmp .ge 26, 3) := dk_162 0 26 (dk_at dksJ9_utf16hashCode_0 12 rfl rfl)
theorem dJ9_utf16hashCode_15 : decode cJ9_utf16hashCode 15 = .ok (.bipush 31, 2) := dk_16 31 (dk_at dksJ9_utf16hashCode_0 15 rfl rfl)
theorem dJ9_utf16hashCode_17 : decode cJ9_utf16hashCode 17 = .ok (.iload_n 0, 1) := dk_26 (dk_at dksJ9_utf16hashCode_0 17 rfl rfl)
theorem dJ9_utf16hashCode_18 : decode cJ9_utf16hashCode 18 = .ok (.imul, 1) := dk_104 (dk_at dksJ9_utf16hashCode_0 18 rfl rfl)
theorem dJ9_utf16hashCode_19 : decode cJ9_utf16hashCode 19 = .ok (.getstatic 106, 3) := dk_178 0 106 (dk_at dksJ9_utf16hashCode_0 19 rfl rfl)
theorem dJ9_utf16hashCode_22 : decode cJ9_utf16hashCode 22 = .ok (.aload_n 1, 1) := dk_43 (dk_at dksJ9_utf16hashCode_0 22 rfl rfl)
theorem dJ9_utf16hashCode_23 : decode cJ9_utf16hashCode 23 = .ok (.iload 5, 2) := dk_21 5 (dk_at dksJ9_utf16hashCode_1 0 rfl rfl)
theorem dJ9_utf16hashCode_25 : decode cJ9_utf16hashCode 25 = .ok (.invokeinterface 110 3, 5) := by decide +kernel
theorem dJ9_utf16hashCode_30 : decode cJ9_utf16hashCode 30 = .ok (.iadd, 1) := dk_96 (dk_at dksJ9_utf16hashCode_1 7 rfl rfl)
theorem dJ9_utf16hashCode_31 : decode cJ9_utf16hashCode 31 = .ok (.istore_n 0, 1) := dk_59 (dk_at dksJ9_utf16hashCode_1 8 rfl rfl)
theorem dJ9_utf16hashCode_32 : decode cJ9_utf16hashCode 32 = .ok (.iinc 5 1, 3) := dk_132 5 1 (dk_at dksJ9_utf16hashCode_1 9 rfl rfl)
theorem dJ9_utf16hashCode_35 : decode cJ9_utf16hashCode 35 = .ok (.goto (-27), 3) := dk_167 255 229 (dk_at dksJ9_utf16hashCode_1 12 rfl rfl)
theorem dJ9_utf16hashCode_38 : decode cJ9_utf16hashCode 38 = .ok (.iload_n 0, 1) := dk_26 (dk_at dksJ9_utf16hashCode_1 15 rfl rfl)
theorem dJ9_utf16hashCode_39 : decode cJ9_utf16hashCode 39 = .ok (.ireturn, 1) := dk_172 (dk_at dksJ9_utf16hashCode_1 16 rfl rfl)
abbrev cJ9_hashCode : ByteArray := prog_76_method_7_code
def yJ9_hashCode : MethodName := ⟨RJ9, "hashCode", "(I[CII)I"⟩
def dkwJ9_hashCode_1 : List UInt8 := [59, 132, 5, 1, 167, 255, 236, 26, 172]
abbrev dktJ9_hashCode_1 : List UInt8 := dkwJ9_hashCode_1 ++ []
def dkwJ9_hashCode_0 : List UInt8 := [28, 29, 96, 54, 4, 28, 54, 5, 21, 5, 21, 4, 162, 0, 19, 16, 31, 26, 104, 43, 21, 5, 52, 96]
abbrev dktJ9_hashCode_0 : List UInt8 := dkwJ9_hashCode_0 ++ dktJ9_hashCode_1
theorem dksJ9_hashCode_0 : cJ9_hashCode.data.toList.drop 0 = dktJ9_hashCode_0 := by decide +kernel
theorem dksJ9_hashCode_1 : cJ9_hashCode.data.toList.drop 24 = dktJ9_hashCode_1 := dk_seg dksJ9_hashCode_0 24 rfl rfl
theorem dJ9_hashCode_0 : decode cJ9_hashCode 0 = .ok (.iload_n 2, 1) := dk_28 (dk_at dksJ9_hashCode_0 0 rfl rfl)
theorem dJ9_hashCode_1 : decode cJ9_hashCode 1 = .ok (.iload_n 3, 1) := dk_29 (dk_at dksJ9_hashCode_0 1 rfl rfl)
theorem dJ9_hashCode_2 : decode cJ9_hashCode 2 = .ok (.iadd, 1) := dk_96 (dk_at dksJ9_hashCode_0 2 rfl rfl)
theorem dJ9_hashCode_3 : decode cJ9_hashCode 3 = .ok (.istore 4, 2) := dk_54 4 (dk_at dksJ9_hashCode_0 3 rfl rfl)
theorem dJ9_hashCode_5 : decode cJ9_hashCode 5 = .ok (.iload_n 2, 1) := dk_28 (dk_at dksJ9_hashCode_0 5 rfl rfl)
theorem dJ9_hashCode_6 : decode cJ9_hashCode 6 = .ok (.istore 5, 2) := dk_54 5 (dk_at dksJ9_hashCode_0 6 rfl rfl)
theorem dJ9_hashCode_8 : decode cJ9_hashCode 8 = .ok (.iload 5, 2) := dk_21 5 (dk_at dksJ9_hashCode_0 8 rfl rfl)
theorem dJ9_hashCode_10 : decode cJ9_hashCode 10 = .ok (.iload 4, 2) := dk_21 4 (dk_at dksJ9_hashCode_0 10 rfl rfl)
theorem dJ9_hashCode_12 : decode cJ9_hashCode 12 = .ok (.if_icmp .ge 19, 3) := dk_162 0 19 (dk_at dksJ9_hashCode_0 12 rfl rfl)
theorem dJ9_hashCode_15 : decode cJ9_hashCode 15 = .ok (.bipush 31, 2) := dk_16 31 (dk_at dksJ9_hashCode_0 15 rfl rfl)
theorem dJ9_hashCode_17 : decode cJ9_hashCode 17 = .ok (.iload_n 0, 1) := dk_26 (dk_at dksJ9_hashCode_0 17 rfl rfl)
theorem dJ9_hashCode_18 : decode cJ9_hashCode 18 = .ok (.imul, 1) := dk_104 (dk_at dksJ9_hashCode_0 18 rfl rfl)
theorem dJ9_hashCode_19 : decode cJ9_hashCode 19 = .ok (.aload_n 1, 1) := dk_43 (dk_at dksJ9_hashCode_0 19 rfl rfl)
theorem dJ9_hashCode_20 : decode cJ9_hashCode 20 = .ok (.iload 5, 2) := dk_21 5 (dk_at dksJ9_hashCode_0 20 rfl rfl)
theorem dJ9_hashCode_22 : decode cJ9_hashCode 22 = .ok (.caload, 1) := dk_52 (dk_at dksJ9_hashCode_0 22 rfl rfl)
theorem dJ9_hashCode_23 : decode cJ9_hashCode 23 = .ok (.iadd, 1) := dk_96 (dk_at dksJ9_hashCode_0 23 rfl rfl)
theorem dJ9_hashCode_24 : decode cJ9_hashCode 24 = .ok (.istore_n 0, 1) := dk_59 (dk_at dksJ9_hashCode_1 0 rfl rfl)
theorem dJ9_hashCode_25 : decode cJ9_hashCode 25 = .ok (.iinc 5 1, 3) := dk_132 5 1 (dk_at dksJ9_hashCode_1 1 rfl rfl)
theorem dJ9_hashCode_28 : decode cJ9_hashCode 28 = .ok (.goto (-20), 3) := dk_167 255 236 (dk_at dksJ9_hashCode_1 4 rfl rfl)
theorem dJ9_hashCode_31 : decode cJ9_hashCode 31 = .ok (.iload_n 0, 1) := dk_26 (dk_at dksJ9_hashCode_1 7 rfl rfl)
theorem dJ9_hashCode_32 : decode cJ9_hashCode 32 = .ok (.ireturn, 1) := dk_172 (dk_at dksJ9_hashCode_1 8 rfl rfl)
abbrev cJ9_hashCode_2 : ByteArray := prog_76_method_6_code
def yJ9_hashCode_2 : MethodName := ⟨RJ9, "hashCode", "(I[BII)I"⟩
def dkwJ9_hashCode_2_1 : List UInt8 := [59, 132, 5, 1, 167, 255, 236, 26, 172]
abbrev dktJ9_hashCode_2_1 : List UInt8 := dkwJ9_hashCode_2_1 ++ []
def dkwJ9_hashCode_2_0 : List UInt8 := [28, 29, 96, 54, 4, 28, 54, 5, 21, 5, 21, 4, 162, 0, 19, 16, 31, 26, 104, 43, 21, 5, 51, 96]
abbrev dktJ9_hashCode_2_0 : List UInt8 := dkwJ9_hashCode_2_0 ++ dktJ9_hashCode_2_1
theorem dksJ9_hashCode_2_0 : cJ9_hashCode_2.data.toList.drop 0 = dktJ9_hashCode_2_0 := by decide +kernel
theorem dksJ9_hashCode_2_1 : cJ9_hashCode_2.data.toList.drop 24 = dktJ9_hashCode_2_1 := dk_seg dksJ9_hashCode_2_0 24 rfl rfl
theorem dJ9_hashCode_2_0 : decode cJ9_hashCode_2 0 = .ok (.iload_n 2, 1) := dk_28 (dk_at dksJ9_hashCode_2_0 0 rfl rfl)
theorem dJ9_hashCode_2_1 : decode cJ9_hashCode_2 1 = .ok (.iload_n 3, 1) := dk_29 (dk_at dksJ9_hashCode_2_0 1 rfl rfl)
theorem dJ9_hashCode_2_2 : decode cJ9_hashCode_2 2 = .ok (.iadd, 1) := dk_96 (dk_at dksJ9_hashCode_2_0 2 rfl rfl)
theorem dJ9_hashCode_2_3 : decode cJ9_hashCode_2 3 = .ok (.istore 4, 2) := dk_54 4 (dk_at dksJ9_hashCode_2_0 3 rfl rfl)
theorem dJ9_hashCode_2_5 : decode cJ9_hashCode_2 5 = .ok (.iload_n 2, 1) := dk_28 (dk_at dksJ9_hashCode_2_0 5 rfl rfl)
theorem dJ9_hashCode_2_6 : decode cJ9_hashCode_2 6 = .ok (.istore 5, 2) := dk_54 5 (dk_at dksJ9_hashCode_2_0 6 rfl rfl)
theorem dJ9_hashCode_2_8 : decode cJ9_hashCode_2 8 = .ok (.iload 5, 2) := dk_21 5 (dk_at dksJ9_hashCode_2_0 8 rfl rfl)
theorem dJ9_hashCode_2_10 : decode cJ9_hashCode_2 10 = .ok (.iload 4, 2) := dk_21 4 (dk_at dksJ9_hashCode_2_0 10 rfl rfl)
theorem dJ9_hashCode_2_12 : decode cJ9_hashCode_2 12 = .ok (.if_icmp .ge 19, 3) := dk_162 0 19 (dk_at dksJ9_hashCode_2_0 12 rfl rfl)
theorem dJ9_hashCode_2_15 : decode cJ9_hashCode_2 15 = .ok (.bipush 31, 2) := dk_16 31 (dk_at dksJ9_hashCode_2_0 15 rfl rfl)
theorem dJ9_hashCode_2_17 : decode cJ9_hashCode_2 17 = .ok (.iload_n 0, 1) := dk_26 (dk_at dksJ9_hashCode_2_0 17 rfl rfl)
theorem dJ9_hashCode_2_18 : decode cJ9_hashCode_2 18 = .ok (.imul, 1) := dk_104 (dk_at dksJ9_hashCode_2_0 18 rfl rfl)
theorem dJ9_hashCode_2_19 : decode cJ9_hashCode_2 19 = .ok (.aload_n 1, 1) := dk_43 (dk_at dksJ9_hashCode_2_0 19 rfl rfl)
theorem dJ9_hashCode_2_20 : decode cJ9_hashCode_2 20 = .ok (.iload 5, 2) := dk_21 5 (dk_at dksJ9_hashCode_2_0 20 rfl rfl)
theorem dJ9_hashCode_2_22 : decode cJ9_hashCode_2 22 = .ok (.baload, 1) := dk_51 (dk_at dksJ9_hashCode_2_0 22 rfl rfl)
theorem dJ9_hashCode_2_23 : decode cJ9_hashCode_2 23 = .ok (.iadd, 1) := dk_96 (dk_at dksJ9_hashCode_2_0 23 rfl rfl)
theorem dJ9_hashCode_2_24 : decode cJ9_hashCode_2 24 = .ok (.istore_n 0, 1) := dk_59 (dk_at dksJ9_hashCode_2_1 0 rfl rfl)
theorem dJ9_hashCode_2_25 : decode cJ9_hashCode_2 25 = .ok (.iinc 5 1, 3) := dk_132 5 1 (dk_at dksJ9_hashCode_2_1 1 rfl rfl)
theorem dJ9_hashCode_2_28 : decode cJ9_hashCode_2 28 = .ok (.goto (-20), 3) := dk_167 255 236 (dk_at dksJ9_hashCode_2_1 4 rfl rfl)
theorem dJ9_hashCode_2_31 : decode cJ9_hashCode_2 31 = .ok (.iload_n 0, 1) := dk_26 (dk_at dksJ9_hashCode_2_1 7 rfl rfl)
theorem dJ9_hashCode_2_32 : decode cJ9_hashCode_2 32 = .ok (.ireturn, 1) := dk_172 (dk_at dksJ9_hashCode_2_1 8 rfl rfl)
abbrev cJ9_hashCode_3 : ByteArray := prog_76_method_8_code
def yJ9_hashCode_3 : MethodName := ⟨RJ9, "hashCode", "(I[SII)I"⟩
def dkwJ9_hashCode_3_1 : List UInt8 := [59, 132, 5, 1, 167, 255, 236, 26, 172]
abbrev dktJ9_hashCode_3_1 : List UInt8 := dkwJ9_hashCode_3_1 ++ []
def dkwJ9_hashCode_3_0 : List UInt8 := [28, 29, 96, 54, 4, 28, 54, 5, 21, 5, 21, 4, 162, 0, 19, 16, 31, 26, 104, 43, 21, 5, 53, 96]
abbrev dktJ9_hashCode_3_0 : List UInt8 := dkwJ9_hashCode_3_0 ++ dktJ9_hashCode_3_1
theorem dksJ9_hashCode_3_0 : cJ9_hashCode_3.data.toList.drop 0 = dktJ9_hashCode_3_0 := by decide +kernel
theorem dksJ9_hashCode_3_1 : cJ9_hashCode_3.data.toList.drop 24 = dktJ9_hashCode_3_1 := dk_seg dksJ9_hashCode_3_0 24 rfl rfl
theorem dJ9_hashCode_3_0 : decode cJ9_hashCode_3 0 = .ok (.iload_n 2, 1) := dk_28 (dk_at dksJ9_hashCode_3_0 0 rfl rfl)
theorem dJ9_hashCode_3_1 : decode cJ9_hashCode_3 1 = .ok (.iload_n 3, 1) := dk_29 (dk_at dksJ9_hashCode_3_0 1 rfl rfl)
theorem dJ9_hashCode_3_2 : decode cJ9_hashCode_3 2 = .ok (.iadd, 1) := dk_96 (dk_at dksJ9_hashCode_3_0 2 rfl rfl)
theorem dJ9_hashCode_3_3 : decode cJ9_hashCode_3 3 = .ok (.istore 4, 2) := dk_54 4 (dk_at dksJ9_hashCode_3_0 3 rfl rfl)
theorem dJ9_hashCode_3_5 : decode cJ9_hashCode_3 5 = .ok (.iload_n 2, 1) := dk_28 (dk_at dksJ9_hashCode_3_0 5 rfl rfl)
theorem dJ9_hashCode_3_6 : decode cJ9_hashCode_3 6 = .ok (.istore 5, 2) := dk_54 5 (dk_at dksJ9_hashCode_3_0 6 rfl rfl)
theorem dJ9_hashCode_3_8 : decode cJ9_hashCode_3 8 = .ok (.iload 5, 2) := dk_21 5 (dk_at dksJ9_hashCode_3_0 8 rfl rfl)
theorem dJ9_hashCode_3_10 : decode cJ9_hashCode_3 10 = .ok (.iload 4, 2) := dk_21 4 (dk_at dksJ9_hashCode_3_0 10 rfl rfl)
theorem dJ9_hashCode_3_12 : decode cJ9_hashCode_3 12 = .ok (.if_icmp .ge 19, 3) := dk_162 0 19 (dk_at dksJ9_hashCode_3_0 12 rfl rfl)
theorem dJ9_hashCode_3_15 : decode cJ9_hashCode_3 15 = .ok (.bipush 31, 2) := dk_16 31 (dk_at dksJ9_hashCode_3_0 15 rfl rfl)
theorem dJ9_hashCode_3_17 : decode cJ9_hashCode_3 17 = .ok (.iload_n 0, 1) := dk_26 (dk_at dksJ9_hashCode_3_0 17 rfl rfl)
theorem dJ9_hashCode_3_18 : decode cJ9_hashCode_3 18 = .ok (.imul, 1) := dk_104 (dk_at dksJ9_hashCode_3_0 18 rfl rfl)
theorem dJ9_hashCode_3_19 : decode cJ9_hashCode_3 19 = .ok (.aload_n 1, 1) := dk_43 (dk_at dksJ9_hashCode_3_0 19 rfl rfl)
theorem dJ9_hashCode_3_20 : decode cJ9_hashCode_3 20 = .ok (.iload 5, 2) := dk_21 5 (dk_at dksJ9_hashCode_3_0 20 rfl rfl)
theorem dJ9_hashCode_3_22 : decode cJ9_hashCode_3 22 = .ok (.saload, 1) := dk_53 (dk_at dksJ9_hashCode_3_0 22 rfl rfl)
theorem dJ9_hashCode_3_23 : decode cJ9_hashCode_3 23 = .ok (.iadd, 1) := dk_96 (dk_at dksJ9_hashCode_3_0 23 rfl rfl)
theorem dJ9_hashCode_3_24 : decode cJ9_hashCode_3 24 = .ok (.istore_n 0, 1) := dk_59 (dk_at dksJ9_hashCode_3_1 0 rfl rfl)
theorem dJ9_hashCode_3_25 : decode cJ9_hashCode_3 25 = .ok (.iinc 5 1, 3) := dk_132 5 1 (dk_at dksJ9_hashCode_3_1 1 rfl rfl)
theorem dJ9_hashCode_3_28 : decode cJ9_hashCode_3 28 = .ok (.goto (-20), 3) := dk_167 255 236 (dk_at dksJ9_hashCode_3_1 4 rfl rfl)
theorem dJ9_hashCode_3_31 : decode cJ9_hashCode_3 31 = .ok (.iload_n 0, 1) := dk_26 (dk_at dksJ9_hashCode_3_1 7 rfl rfl)
theorem dJ9_hashCode_3_32 : decode cJ9_hashCode_3 32 = .ok (.ireturn, 1) := dk_172 (dk_at dksJ9_hashCode_3_1 8 rfl rfl)
abbrev cJ9_hashCode_4 : ByteArray := prog_76_method_9_code
def yJ9_hashCode_4 : MethodName := ⟨RJ9, "hashCode", "(I[III)I"⟩
def dkwJ9_hashCode_4_1 : List UInt8 := [59, 132, 5, 1, 167, 255, 236, 26, 172]
abbrev dktJ9_hashCode_4_1 : List UInt8 := dkwJ9_hashCode_4_1 ++ []
def dkwJ9_hashCode_4_0 : List UInt8 := [28, 29, 96, 54, 4, 28, 54, 5, 21, 5, 21, 4, 162, 0, 19, 16, 31, 26, 104, 43, 21, 5, 46, 96]
abbrev dktJ9_hashCode_4_0 : List UInt8 := dkwJ9_hashCode_4_0 ++ dktJ9_hashCode_4_1
theorem dksJ9_hashCode_4_0 : cJ9_hashCode_4.data.toList.drop 0 = dktJ9_hashCode_4_0 := by decide +kernel
theorem dksJ9_hashCode_4_1 : cJ9_hashCode_4.data.toList.drop 24 = dktJ9_hashCode_4_1 := dk_seg dksJ9_hashCode_4_0 24 rfl rfl
theorem dJ9_hashCode_4_0 : decode cJ9_hashCode_4 0 = .ok (.iload_n 2, 1) := dk_28 (dk_at dksJ9_hashCode_4_0 0 rfl rfl)
theorem dJ9_hashCode_4_1 : decode cJ9_hashCode_4 1 = .ok (.iload_n 3, 1) := dk_29 (dk_at dksJ9_hashCode_4_0 1 rfl rfl)
theorem dJ9_hashCode_4_2 : decode cJ9_hashCode_4 2 = .ok (.iadd, 1) := dk_96 (dk_at dksJ9_hashCode_4_0 2 rfl rfl)
theorem dJ9_hashCode_4_3 : decode cJ9_hashCode_4 3 = .ok (.istore 4, 2) := dk_54 4 (dk_at dksJ9_hashCode_4_0 3 rfl rfl)
theorem dJ9_hashCode_4_5 : decode cJ9_hashCode_4 5 = .ok (.iload_n 2, 1) := dk_28 (dk_at dksJ9_hashCode_4_0 5 rfl rfl)
theorem dJ9_hashCode_4_6 : decode cJ9_hashCode_4 6 = .ok (.istore 5, 2) := dk_54 5 (dk_at dksJ9_hashCode_4_0 6 rfl rfl)
theorem dJ9_hashCode_4_8 : decode cJ9_hashCode_4 8 = .ok (.iload 5, 2) := dk_21 5 (dk_at dksJ9_hashCode_4_0 8 rfl rfl)
theorem dJ9_hashCode_4_10 : decode cJ9_hashCode_4 10 = .ok (.iload 4, 2) := dk_21 4 (dk_at dksJ9_hashCode_4_0 10 rfl rfl)
theorem dJ9_hashCode_4_12 : decode cJ9_hashCode_4 12 = .ok (.if_icmp .ge 19, 3) := dk_162 0 19 (dk_at dksJ9_hashCode_4_0 12 rfl rfl)
theorem dJ9_hashCode_4_15 : decode cJ9_hashCode_4 15 = .ok (.bipush 31, 2) := dk_16 31 (dk_at dksJ9_hashCode_4_0 15 rfl rfl)
theorem dJ9_hashCode_4_17 : decode cJ9_hashCode_4 17 = .ok (.iload_n 0, 1) := dk_26 (dk_at dksJ9_hashCode_4_0 17 rfl rfl)
theorem dJ9_hashCode_4_18 : decode cJ9_hashCode_4 18 = .ok (.imul, 1) := dk_104 (dk_at dksJ9_hashCode_4_0 18 rfl rfl)
theorem dJ9_hashCode_4_19 : decode cJ9_hashCode_4 19 = .ok (.aload_n 1, 1) := dk_43 (dk_at dksJ9_hashCode_4_0 19 rfl rfl)
theorem dJ9_hashCode_4_20 : decode cJ9_hashCode_4 20 = .ok (.iload 5, 2) := dk_21 5 (dk_at dksJ9_hashCode_4_0 20 rfl rfl)
theorem dJ9_hashCode_4_22 : decode cJ9_hashCode_4 22 = .ok (.iaload, 1) := dk_46 (dk_at dksJ9_hashCode_4_0 22 rfl rfl)
theorem dJ9_hashCode_4_23 : decode cJ9_hashCode_4 23 = .ok (.iadd, 1) := dk_96 (dk_at dksJ9_hashCode_4_0 23 rfl rfl)
theorem dJ9_hashCode_4_24 : decode cJ9_hashCode_4 24 = .ok (.istore_n 0, 1) := dk_59 (dk_at dksJ9_hashCode_4_1 0 rfl rfl)
theorem dJ9_hashCode_4_25 : decode cJ9_hashCode_4 25 = .ok (.iinc 5 1, 3) := dk_132 5 1 (dk_at dksJ9_hashCode_4_1 1 rfl rfl)
theorem dJ9_hashCode_4_28 : decode cJ9_hashCode_4 28 = .ok (.goto (-20), 3) := dk_167 255 236 (dk_at dksJ9_hashCode_4_1 4 rfl rfl)
theorem dJ9_hashCode_4_31 : decode cJ9_hashCode_4 31 = .ok (.iload_n 0, 1) := dk_26 (dk_at dksJ9_hashCode_4_1 7 rfl rfl)
theorem dJ9_hashCode_4_32 : decode cJ9_hashCode_4 32 = .ok (.ireturn, 1) := dk_172 (dk_at dksJ9_hashCode_4_1 8 rfl rfl)
abbrev cJ9_mismatch : ByteArray := prog_76_method_13_code
def yJ9_mismatch : MethodName := ⟨RJ9, "mismatch", "([B[BI)I"⟩
def dkwJ9_mismatch_3 : List UInt8 := [172]
abbrev dktJ9_mismatch_3 : List UInt8 := dkwJ9_mismatch_3 ++ []
def dkwJ9_mismatch_2 : List UInt8 := [62, 29, 28, 162, 0, 20, 42, 29, 51, 43, 29, 51, 159, 0, 5, 29, 172, 132, 3, 1, 167, 255, 237, 2]
abbrev dktJ9_mismatch_2 : List UInt8 := dkwJ9_mismatch_2 ++ dktJ9_mismatch_3
def dkwJ9_mismatch_1 : List UInt8 := [43, 178, 0, 126, 133, 28, 178, 0, 129, 184, 0, 122, 62, 29, 155, 0, 5, 29, 172, 28, 29, 2, 130, 100]
abbrev dktJ9_mismatch_1 : List UInt8 := dkwJ9_mismatch_1 ++ dktJ9_mismatch_2
def dkwJ9_mismatch_0 : List UInt8 := [3, 62, 28, 16, 7, 164, 0, 44, 42, 3, 51, 43, 3, 51, 159, 0, 5, 3, 172, 42, 178, 0, 126, 133]
abbrev dktJ9_mismatch_0 : List UInt8 := dkwJ9_mismatch_0 ++ dktJ9_mismatch_1
theorem dksJ9_mismatch_0 : cJ9_mismatch.data.toList.drop 0 = dktJ9_mismatch_0 := by decide +kernel
theorem dksJ9_mismatch_1 : cJ9_mismatch.data.toList.drop 24 = dktJ9_mismatch_1 := dk_seg dksJ9_mismatch_0 24 rfl rfl
theorem dksJ9_mismatch_2 : cJ9_mismatch.data.toList.drop 48 = dktJ9_mismatch_2 := dk_seg dksJ9_mismatch_1 24 rfl rfl
theorem dksJ9_mismatch_3 : cJ9_mismatch.data.toList.drop 72 = dktJ9_mismatch_3 := dk_seg dksJ9_mismatch_2 24 rfl rfl
theorem dJ9_mismatch_0 : decode cJ9_mismatch 0 = .ok (.iconst 0, 1) := dk_3 (dk_at dksJ9_mismatch_0 0 rfl rfl)
theorem dJ9_mismatch_1 : decode cJ9_mismatch 1 = .ok (.istore_n 3, 1) := dk_62 (dk_at dksJ9_mismatch_0 1 rfl rfl)
theorem dJ9_mismatch_2 : decode cJ9_mismatch 2 = .ok (.iload_n 2, 1) := dk_28 (dk_at dksJ9_mismatch_0 2 rfl rfl)
theorem dJ9_mismatch_3 : decode cJ9_mismatch 3 = .ok (.bipush 7, 2) := dk_16 7 (dk_at dksJ9_mismatch_0 3 rfl rfl)
theorem dJ9_mismatch_5 : decode cJ9_mismatch 5 = .ok (.if_icmp .le 44, 3) := dk_164 0 44 (dk_at dksJ9_mismatch_0 5 rfl rfl)
theorem dJ9_mismatch_8 : decode cJ9_mismatch 8 = .ok (.aload_n 0, 1) := dk_42 (dk_at dksJ9_mismatch_0 8 rfl rfl)
theorem dJ9_mismatch_9 : decode cJ9_mismatch 9 = .ok (.iconst 0, 1) := dk_3 (dk_at dksJ9_mismatch_0 9 rfl rfl)
theorem dJ9_mismatch_10 : decode cJ9_mismatch 10 = .ok (.baload, 1) := dk_51 (dk_at dksJ9_mismatch_0 10 rfl rfl)
theorem dJ9_mismatch_11 : decode cJ9_mismatch 11 = .ok (.aload_n 1, 1) := dk_43 (dk_at dksJ9_mismatch_0 11 rfl rfl)
theorem dJ9_mismatch_12 : decode cJ9_mismatch 12 = .ok (.iconst 0, 1) := dk_3 (dk_at dksJ9_mismatch_0 12 rfl rfl)
theorem dJ9_mismatch_13 : decode cJ9_mismatch 13 = .ok (.baload, 1) := dk_51 (dk_at dksJ9_mismatch_0 13 rfl rfl)
theorem dJ9_mismatch_14 : decode cJ9_mismatch 14 = .ok (.if_icmp .eq 5, 3) := dk_159 0 5 (dk_at dksJ9_mismatch_0 14 rfl rfl)
theorem dJ9_mismatch_17 : decode cJ9_mismatch 17 = .ok (.iconst 0, 1) := dk_3 (dk_at dksJ9_mismatch_0 17 rfl rfl)
theorem dJ9_mismatch_18 : decode cJ9_mismatch 18 = .ok (.ireturn, 1) := dk_172 (dk_at dksJ9_mismatch_0 18 rfl rfl)
theorem dJ9_mismatch_19 : decode cJ9_mismatch 19 = .ok (.aload_n 0, 1) := dk_42 (dk_at dksJ9_mismatch_0 19 rfl rfl)
theorem dJ9_mismatch_20 : decode cJ9_mismatch 20 = .ok (.getstatic 126, 3) := dk_178 0 126 (dk_at dksJ9_mismatch_0 20 rfl rfl)
theorem dJ9_mismatch_23 : decode cJ9_mismatch 23 = .ok (.i2l, 1) := dk_133 (dk_at dksJ9_mismatch_0 23 rfl rfl)
theorem dJ9_mismatch_24 : decode cJ9_mismatch 24 = .ok (.aload_n 1, 1) := dk_43 (dk_at dksJ9_mismatch_1 0 rfl rfl)
theorem dJ9_mismatch_25 : decode cJ9_mismatch 25 = .ok (.getstatic 126, 3) := dk_178 0 126 (dk_at dksJ9_mismatch_1 1 rfl rfl)
theorem dJ9_mismatch_28 : decode cJ9_mismatch 28 = .ok (.i2l, 1) := dk_133 (dk_at dksJ9_mismatch_1 4 rfl rfl)
theorem dJ9_mismatch_29 : decode cJ9_mismatch 29 = .ok (.iload_n 2, 1) := dk_28 (dk_at dksJ9_mismatch_1 5 rfl rfl)
theorem dJ9_mismatch_30 : decode cJ9_mismatch 30 = .ok (.getstatic 129, 3) := dk_178 0 129 (dk_at dksJ9_mismatch_1 6 rfl rfl)
theorem dJ9_mismatch_33 : decode cJ9_mismatch 33 = .ok (.invokestatic 122, 3) := dk_184 0 122 (dk_at dksJ9_mismatch_1 9 rfl rfl)
theorem dJ9_mismatch_36 : decode cJ9_mismatch 36 = .ok (.istore_n 3, 1) := dk_62 (dk_at dksJ9_mismatch_1 12 rfl rfl)
theorem dJ9_mismatch_37 : decode cJ9_mismatch 37 = .ok (.iload_n 3, 1) := dk_29 (dk_at dksJ9_mismatch_1 13 rfl rfl)
theorem dJ9_mismatch_38 : decode cJ9_mismatch 38 = .ok (.ifCond .lt 5, 3) := dk_155 0 5 (dk_at dksJ9_mismatch_1 14 rfl rfl)
theorem dJ9_mismatch_41 : decode cJ9_mismatch 41 = .ok (.iload_n 3, 1) := dk_29 (dk_at dksJ9_mismatch_1 17 rfl rfl)
theorem dJ9_mismatch_42 : decode cJ9_mismatch 42 = .ok (.ireturn, 1) := dk_172 (dk_at dksJ9_mismatch_1 18 rfl rfl)
theorem dJ9_mismatch_43 : decode cJ9_mismatch 43 = .ok (.iload_n 2, 1) := dk_28 (dk_at dksJ9_mismatch_1 19 rfl rfl)
theorem dJ9_mismatch_44 : decode cJ9_mismatch 44 = .ok (.iload_n 3, 1) := dk_29 (dk_at dksJ9_mismatch_1 20 rfl rfl)
theorem dJ9_mismatch_45 : decode cJ9_mismatch 45 = .ok (.iconst (-1), 1) := dk_2 (dk_at dksJ9_mismatch_1 21 rfl rfl)
theorem dJ9_mismatch_46 : decode cJ9_mismatch 46 = .ok (.ixor, 1) := dk_130 (dk_at dksJ9_mismatch_1 22 rfl rfl)
theorem dJ9_mismatch_47 : decode cJ9_mismatch 47 = .ok (.isub, 1) := dk_100 (dk_at dksJ9_mismatch_1 23 rfl rfl)
theorem dJ9_mismatch_48 : decode cJ9_mismatch 48 = .ok (.istore_n 3, 1) := dk_62 (dk_at dksJ9_mismatch_2 0 rfl rfl)
theorem dJ9_mismatch_49 : decode cJ9_mismatch 49 = .ok (.iload_n 3, 1) := dk_29 (dk_at dksJ9_mismatch_2 1 rfl rfl)
theorem dJ9_mismatch_50 : decode cJ9_mismatch 50 = .ok (.iload_n 2, 1) := dk_28 (dk_at dksJ9_mismatch_2 2 rfl rfl)
theorem dJ9_mismatch_51 : decode cJ9_mismatch 51 = .ok (.if_icmp .ge 20, 3) := dk_162 0 20 (dk_at dksJ9_mismatch_2 3 rfl rfl)
theorem dJ9_mismatch_54 : decode cJ9_mismatch 54 = .ok (.aload_n 0, 1) := dk_42 (dk_at dksJ9_mismatch_2 6 rfl rfl)
theorem dJ9_mismatch_55 : decode cJ9_mismatch 55 = .ok (.iload_n 3, 1) := dk_29 (dk_at dksJ9_mismatch_2 7 rfl rfl)
theorem dJ9_mismatch_56 : decode cJ9_mismatch 56 = .ok (.baload, 1) := dk_51 (dk_at dksJ9_mismatch_2 8 rfl rfl)
theorem dJ9_mismatch_57 : decode cJ9_mismatch 57 = .ok (.aload_n 1, 1) := dk_43 (dk_at dksJ9_mismatch_2 9 rfl rfl)
theorem dJ9_mismatch_58 : decode cJ9_mismatch 58 = .ok (.iload_n 3, 1) := dk_29 (dk_at dksJ9_mismatch_2 10 rfl rfl)
theorem dJ9_mismatch_59 : decode cJ9_mismatch 59 = .ok (.baload, 1) := dk_51 (dk_at dksJ9_mismatch_2 11 rfl rfl)
theorem dJ9_mismatch_60 : decode cJ9_mismatch 60 = .ok (.if_icmp .eq 5, 3) := dk_159 0 5 (dk_at dksJ9_mismatch_2 12 rfl rfl)
theorem dJ9_mismatch_63 : decode cJ9_mismatch 63 = .ok (.iload_n 3, 1) := dk_29 (dk_at dksJ9_mismatch_2 15 rfl rfl)
theorem dJ9_mismatch_64 : decode cJ9_mismatch 64 = .ok (.ireturn, 1) := dk_172 (dk_at dksJ9_mismatch_2 16 rfl rfl)
theorem dJ9_mismatch_65 : decode cJ9_mismatch 65 = .ok (.iinc 3 1, 3) := dk_132 3 1 (dk_at dksJ9_mismatch_2 17 rfl rfl)
theorem dJ9_mismatch_68 : decode cJ9_mismatch 68 = .ok (.goto (-19), 3) := dk_167 255 237 (dk_at dksJ9_mismatch_2 20 rfl rfl)
theorem dJ9_mismatch_71 : decode cJ9_mismatch 71 = .ok (.iconst (-1), 1) := dk_2 (dk_at dksJ9_mismatch_2 23 rfl rfl)
theorem dJ9_mismatch_72 : decode cJ9_mismatch 72 = .ok (.ireturn, 1) := dk_172 (dk_at dksJ9_mismatch_3 0 rfl rfl)
abbrev cJ9_vectorizedMismatch : ByteArray := prog_76_method_3_code
def yJ9_vectorizedMismatch : MethodName := ⟨RJ9, "vectorizedMismatch", "(Ljava/lang/Object;JLjava/lang/Object;JII)I"⟩
def dkwJ9_vectorizedMismatch_11 : List UInt8 := [54, 10, 21, 10, 2, 130, 172, 21, 10, 2, 130, 172]
abbrev dktJ9_vectorizedMismatch_11 : List UInt8 := dkwJ9_vectorizedMismatch_11 ++ []
def dkwJ9_vectorizedMismatch_10 : List UInt8 := [178, 0, 46, 21, 7, 96, 122, 54, 17, 21, 9, 21, 8, 120, 21, 17, 96, 172, 21, 10, 21, 11, 100]
abbrev dktJ9_vectorizedMismatch_10 : List UInt8 := dkwJ9_vectorizedMismatch_10 ++ dktJ9_vectorizedMismatch_11
def dkwJ9_vectorizedMismatch_9 : List UInt8 := [153, 0, 18, 21, 16, 184, 0, 58, 178, 0, 46, 21, 7, 96, 122, 167, 0, 15, 21, 16, 184, 0, 11]
abbrev dktJ9_vectorizedMismatch_9 : List UInt8 := dkwJ9_vectorizedMismatch_9 ++ dktJ9_vectorizedMismatch_10
def dkwJ9_vectorizedMismatch_8 : List UInt8 := [182, 0, 54, 54, 15, 21, 14, 21, 15, 159, 0, 54, 21, 14, 21, 15, 130, 54, 16, 178, 0, 36]
abbrev dktJ9_vectorizedMismatch_8 : List UInt8 := dkwJ9_vectorizedMismatch_8 ++ dktJ9_vectorizedMismatch_9
def dkwJ9_vectorizedMismatch_7 : List UInt8 := [55, 12, 178, 0, 26, 42, 31, 22, 12, 97, 182, 0, 54, 54, 14, 178, 0, 26, 45, 22, 4, 22, 12, 97]
abbrev dktJ9_vectorizedMismatch_7 : List UInt8 := dkwJ9_vectorizedMismatch_7 ++ dktJ9_vectorizedMismatch_8
def dkwJ9_vectorizedMismatch_6 : List UInt8 := [4, 178, 0, 51, 21, 7, 100, 120, 54, 11, 21, 10, 21, 11, 161, 0, 104, 21, 9, 133, 178, 0, 20, 121]
abbrev dktJ9_vectorizedMismatch_6 : List UInt8 := dkwJ9_vectorizedMismatch_6 ++ dktJ9_vectorizedMismatch_7
def dkwJ9_vectorizedMismatch_5 : List UInt8 := [132, 9, 1, 167, 255, 148, 21, 6, 21, 9, 21, 8, 120, 100, 54, 10, 21, 7, 178, 0, 51, 162, 0, 126]
abbrev dktJ9_vectorizedMismatch_5 : List UInt8 := dkwJ9_vectorizedMismatch_5 ++ dktJ9_vectorizedMismatch_6
def dkwJ9_vectorizedMismatch_4 : List UInt8 := [22, 16, 184, 0, 49, 178, 0, 46, 21, 7, 96, 122, 54, 18, 21, 9, 21, 8, 120, 21, 18, 96, 172]
abbrev dktJ9_vectorizedMismatch_4 : List UInt8 := dkwJ9_vectorizedMismatch_4 ++ dktJ9_vectorizedMismatch_5
def dkwJ9_vectorizedMismatch_3 : List UInt8 := [55, 16, 178, 0, 36, 153, 0, 18, 22, 16, 184, 0, 40, 178, 0, 46, 21, 7, 96, 122, 167, 0, 15]
abbrev dktJ9_vectorizedMismatch_3 : List UInt8 := dkwJ9_vectorizedMismatch_3 ++ dktJ9_vectorizedMismatch_4
def dkwJ9_vectorizedMismatch_2 : List UInt8 := [22, 4, 22, 10, 97, 182, 0, 30, 55, 14, 22, 12, 22, 14, 148, 153, 0, 54, 22, 12, 22, 14, 131]
abbrev dktJ9_vectorizedMismatch_2 : List UInt8 := dkwJ9_vectorizedMismatch_2 ++ dktJ9_vectorizedMismatch_3
def dkwJ9_vectorizedMismatch_1 : List UInt8 := [178, 0, 20, 121, 55, 10, 178, 0, 26, 42, 31, 22, 10, 97, 182, 0, 30, 55, 12, 178, 0, 26, 45]
abbrev dktJ9_vectorizedMismatch_1 : List UInt8 := dkwJ9_vectorizedMismatch_1 ++ dktJ9_vectorizedMismatch_2
def dkwJ9_vectorizedMismatch_0 : List UInt8 := [178, 0, 20, 21, 7, 100, 54, 8, 3, 54, 9, 21, 9, 21, 6, 21, 8, 122, 162, 0, 104, 21, 9, 133]
abbrev dktJ9_vectorizedMismatch_0 : List UInt8 := dkwJ9_vectorizedMismatch_0 ++ dktJ9_vectorizedMismatch_1
theorem dksJ9_vectorizedMismatch_0 : cJ9_vectorizedMismatch.data.toList.drop 0 = dktJ9_vectorizedMismatch_0 := by decide +kernel
theorem dksJ9_vectorizedMismatch_1 : cJ9_vectorizedMismatch.data.toList.drop 24 = dktJ9_vectorizedMismatch_1 := dk_seg dksJ9_vectorizedMismatch_0 24 rfl rfl
theorem dksJ9_vectorizedMismatch_2 : cJ9_vectorizedMismatch.data.toList.drop 47 = dktJ9_vectorizedMismatch_2 := dk_seg dksJ9_vectorizedMismatch_1 23 rfl rfl
theorem dksJ9_vectorizedMismatch_3 : cJ9_vectorizedMismatch.data.toList.drop 70 = dktJ9_vectorizedMismatch_3 := dk_seg dksJ9_vectorizedMismatch_2 23 rfl rfl
theorem dksJ9_vectorizedMismatch_4 : cJ9_vectorizedMismatch.data.toList.drop 93 = dktJ9_vectorizedMismatch_4 := dk_seg dksJ9_vectorizedMismatch_3 23 rfl rfl
theorem dksJ9_vectorizedMismatch_5 : cJ9_vectorizedMismatch.data.toList.drop 116 = dktJ9_vectorizedMismatch_5 := dk_seg dksJ9_vectorizedMismatch_4 23 rfl rfl
theorem dksJ9_vectorizedMismatch_6 : cJ9_vectorizedMismatch.data.toList.drop 140 = dktJ9_vectorizedMismatch_6 := dk_seg dksJ9_vectorizedMismatch_5 24 rfl rfl
theorem dksJ9_vectorizedMismatch_7 : cJ9_vectorizedMismatch.data.toList.drop 164 = dktJ9_vectorizedMismatch_7 := dk_seg dksJ9_vectorizedMismatch_6 24 rfl rfl
theorem dksJ9_vectorizedMismatch_8 : cJ9_vectorizedMismatch.data.toList.drop 188 = dktJ9_vectorizedMismatch_8 := dk_seg dksJ9_vectorizedMismatch_7 24 rfl rfl
theorem dksJ9_vectorizedMismatch_9 : cJ9_vectorizedMismatch.data.toList.drop 210 = dktJ9_vectorizedMismatch_9 := dk_seg dksJ9_vectorizedMismatch_8 22 rfl rfl
theorem dksJ9_vectorizedMismatch_10 : cJ9_vectorizedMismatch.data.toList.drop 233 = dktJ9_vectorizedMismatch_10 := dk_seg dksJ9_vectorizedMismatch_9 23 rfl rfl
theorem dksJ9_vectorizedMismatch_11 : cJ9_vectorizedMismatch.data.toList.drop 256 = dktJ9_vectorizedMismatch_11 := dk_seg dksJ9_vectorizedMismatch_10 23 rfl rfl
theorem dJ9_vectorizedMismatch_0 : decode cJ9_vectorizedMismatch 0 = .ok (.getstatic 20, 3) := dk_178 0 20 (dk_at dksJ9_vectorizedMismatch_0 0 rfl rfl)
theorem dJ9_vectorizedMismatch_3 : decode cJ9_vectorizedMismatch 3 = .ok (.iload 7, 2) := dk_21 7 (dk_at dksJ9_vectorizedMismatch_0 3 rfl rfl)
theorem dJ9_vectorizedMismatch_5 : decode cJ9_vectorizedMismatch 5 = .ok (.isub, 1) := dk_100 (dk_at dksJ9_vectorizedMismatch_0 5 rfl rfl)
theorem dJ9_vectorizedMismatch_6 : decode cJ9_vectorizedMismatch 6 = .ok (.istore 8, 2) := dk_54 8 (dk_at dksJ9_vectorizedMismatch_0 6 rfl rfl)
theorem dJ9_vectorizedMismatch_8 : decode cJ9_vectorizedMismatch 8 = .ok (.iconst 0, 1) := dk_3 (dk_at dksJ9_vectorizedMismatch_0 8 rfl rfl)
theorem dJ9_vectorizedMismatch_9 : decode cJ9_vectorizedMismatch 9 = .ok (.istore 9, 2) := dk_54 9 (dk_at dksJ9_vectorizedMismatch_0 9 rfl rfl)
theorem dJ9_vectorizedMismatch_11 : decode cJ9_vectorizedMismatch 11 = .ok (.iload 9, 2) := dk_21 9 (dk_at dksJ9_vectorizedMismatch_0 11 rfl rfl)
theorem dJ9_vectorizedMismatch_13 : decode cJ9_vectorizedMismatch 13 = .ok (.iload 6, 2) := dk_21 6 (dk_at dksJ9_vectorizedMismatch_0 13 rfl rfl)
theorem dJ9_vectorizedMismatch_15 : decode cJ9_vectorizedMismatch 15 = .ok (.iload 8, 2) := dk_21 8 (dk_at dksJ9_vectorizedMismatch_0 15 rfl rfl)
theorem dJ9_vectorizedMismatch_17 : decode cJ9_vectorizedMismatch 17 = .ok (.ishr, 1) := dk_122 (dk_at dksJ9_vectorizedMismatch_0 17 rfl rfl)
theorem dJ9_vectorizedMismatch_18 : decode cJ9_vectorizedMismatch 18 = .ok (.if_icmp .ge 104, 3) := dk_162 0 104 (dk_at dksJ9_vectorizedMismatch_0 18 rfl rfl)
theorem dJ9_vectorizedMismatch_21 : decode cJ9_vectorizedMismatch 21 = .ok (.iload 9, 2) := dk_21 9 (dk_at dksJ9_vectorizedMismatch_0 21 rfl rfl)
theorem dJ9_vectorizedMismatch_23 : decode cJ9_vectorizedMismatch 23 = .ok (.i2l, 1) := dk_133 (dk_at dksJ9_vectorizedMismatch_0 23 rfl rfl)
theorem dJ9_vectorizedMismatch_24 : decode cJ9_vectorizedMismatch 24 = .ok (.getstatic 20, 3) := dk_178 0 20 (dk_at dksJ9_vectorizedMismatch_1 0 rfl rfl)
theorem dJ9_vectorizedMismatch_27 : decode cJ9_vectorizedMismatch 27 = .ok (.lshl, 1) := dk_121 (dk_at dksJ9_vectorizedMismatch_1 3 rfl rfl)
theorem dJ9_vectorizedMismatch_28 : decode cJ9_vectorizedMismatch 28 = .ok (.lstore 10, 2) := dk_55 10 (dk_at dksJ9_vectorizedMismatch_1 4 rfl rfl)
theorem dJ9_vectorizedMismatch_30 : decode cJ9_vectorizedMismatch 30 = .ok (.getstatic 26, 3) := dk_178 0 26 (dk_at dksJ9_vectorizedMismatch_1 6 rfl rfl)
theorem dJ9_vectorizedMismatch_33 : decode cJ9_vectorizedMismatch 33 = .ok (.aload_n 0, 1) := dk_42 (dk_at dksJ9_vectorizedMismatch_1 9 rfl rfl)
theorem dJ9_vectorizedMismatch_34 : decode cJ9_vectorizedMismatch 34 = .ok (.lload_n 1, 1) := dk_31 (dk_at dksJ9_vectorizedMismatch_1 10 rfl rfl)
theorem dJ9_vectorizedMismatch_35 : decode cJ9_vectorizedMismatch 35 = .ok (.lload 10, 2) := dk_22 10 (dk_at dksJ9_vectorizedMismatch_1 11 rfl rfl)
theorem dJ9_vectorizedMismatch_37 : decode cJ9_vectorizedMismatch 37 = .ok (.ladd, 1) := dk_97 (dk_at dksJ9_vectorizedMismatch_1 13 rfl rfl)
theorem dJ9_vectorizedMismatch_38 : decode cJ9_vectorizedMismatch 38 = .ok (.invokevirtual 30, 3) := dk_182 0 30 (dk_at dksJ9_vectorizedMismatch_1 14 rfl rfl)
theorem dJ9_vectorizedMismatch_41 : decode cJ9_vectorizedMismatch 41 = .ok (.lstore 12, 2) := dk_55 12 (dk_at dksJ9_vectorizedMismatch_1 17 rfl rfl)
theorem dJ9_vectorizedMismatch_43 : decode cJ9_vectorizedMismatch 43 = .ok (.getstatic 26, 3) := dk_178 0 26 (dk_at dksJ9_vectorizedMismatch_1 19 rfl rfl)
theorem dJ9_vectorizedMismatch_46 : decode cJ9_vectorizedMismatch 46 = .ok (.aload_n 3, 1) := dk_45 (dk_at dksJ9_vectorizedMismatch_1 22 rfl rfl)
theorem dJ9_vectorizedMismatch_47 : decode cJ9_vectorizedMismatch 47 = .ok (.lload 4, 2) := dk_22 4 (dk_at dksJ9_vectorizedMismatch_2 0 rfl rfl)
theorem dJ9_vectorizedMismatch_49 : decode cJ9_vectorizedMismatch 49 = .ok (.lload 10, 2) := dk_22 10 (dk_at dksJ9_vectorizedMismatch_2 2 rfl rfl)
theorem dJ9_vectorizedMismatch_51 : decode cJ9_vectorizedMismatch 51 = .ok (.ladd, 1) := dk_97 (dk_at dksJ9_vectorizedMismatch_2 4 rfl rfl)
theorem dJ9_vectorizedMismatch_52 : decode cJ9_vectorizedMismatch 52 = .ok (.invokevirtual 30, 3) := dk_182 0 30 (dk_at dksJ9_vectorizedMismatch_2 5 rfl rfl)
theorem dJ9_vectorizedMismatch_55 : decode cJ9_vectorizedMismatch 55 = .ok (.lstore 14, 2) := dk_55 14 (dk_at dksJ9_vectorizedMismatch_2 8 rfl rfl)
theorem dJ9_vectorizedMismatch_57 : decode cJ9_vectorizedMismatch 57 = .ok (.lload 12, 2) := dk_22 12 (dk_at dksJ9_vectorizedMismatch_2 10 rfl rfl)
theorem dJ9_vectorizedMismatch_59 : decode cJ9_vectorizedMismatch 59 = .ok (.lload 14, 2) := dk_22 14 (dk_at dksJ9_vectorizedMismatch_2 12 rfl rfl)
theorem dJ9_vectorizedMismatch_61 : decode cJ9_vectorizedMismatch 61 = .ok (.lcmp, 1) := dk_148 (dk_at dksJ9_vectorizedMismatch_2 14 rfl rfl)
theorem dJ9_vectorizedMismatch_62 : decode cJ9_vectorizedMismatch 62 = .ok (.ifCond .eq 54, 3) := dk_153 0 54 (dk_at dksJ9_vectorizedMismatch_2 15 rfl rfl)
theorem dJ9_vectorizedMismatch_65 : decode cJ9_vectorizedMismatch 65 = .ok (.lload 12, 2) := dk_22 12 (dk_at dksJ9_vectorizedMismatch_2 18 rfl rfl)
theorem dJ9_vectorizedMismatch_67 : decode cJ9_vectorizedMismatch 67 = .ok (.lload 14, 2) := dk_22 14 (dk_at dksJ9_vectorizedMismatch_2 20 rfl rfl)
theorem dJ9_vectorizedMismatch_69 : decode cJ9_vectorizedMismatch 69 = .ok (.lxor, 1) := dk_131 (dk_at dksJ9_vectorizedMismatch_2 22 rfl rfl)
theorem dJ9_vectorizedMismatch_70 : decode cJ9_vectorizedMismatch 70 = .ok (.lstore 16, 2) := dk_55 16 (dk_at dksJ9_vectorizedMismatch_3 0 rfl rfl)
theorem dJ9_vectorizedMismatch_72 : decode cJ9_vectorizedMismatch 72 = .ok (.getstatic 36, 3) := dk_178 0 36 (dk_at dksJ9_vectorizedMismatch_3 2 rfl rfl)
theorem dJ9_vectorizedMismatch_75 : decode cJ9_vectorizedMismatch 75 = .ok (.ifCond .eq 18, 3) := dk_153 0 18 (dk_at dksJ9_vectorizedMismatch_3 5 rfl rfl)
theorem dJ9_vectorizedMismatch_78 : decode cJ9_vectorizedMismatch 78 = .ok (.lload 16, 2) := dk_22 16 (dk_at dksJ9_vectorizedMismatch_3 8 rfl rfl)
theorem dJ9_vectorizedMismatch_80 : decode cJ9_vectorizedMismatch 80 = .ok (.invokestatic 40, 3) := dk_184 0 40 (dk_at dksJ9_vectorizedMismatch_3 10 rfl rfl)
theorem dJ9_vectorizedMismatch_83 : decode cJ9_vectorizedMismatch 83 = .ok (.getstatic 46, 3) := dk_178 0 46 (dk_at dksJ9_vectorizedMismatch_3 13 rfl rfl)
theorem dJ9_vectorizedMismatch_86 : decode cJ9_vectorizedMismatch 86 = .ok (.iload 7, 2) := dk_21 7 (dk_at dksJ9_vectorizedMismatch_3 16 rfl rfl)
theorem dJ9_vectorizedMismatch_88 : decode cJ9_vectorizedMismatch 88 = .ok (.iadd, 1) := dk_96 (dk_at dksJ9_vectorizedMismatch_3 18 rfl rfl)
theorem dJ9_vectorizedMismatch_89 : decode cJ9_vectorizedMismatch 89 = .ok (.ishr, 1) := dk_122 (dk_at dksJ9_vectorizedMismatch_3 19 rfl rfl)
theorem dJ9_vectorizedMismatch_90 : decode cJ9_vectorizedMismatch 90 = .ok (.goto 15, 3) := dk_167 0 15 (dk_at dksJ9_vectorizedMismatch_3 20 rfl rfl)
theorem dJ9_vectorizedMismatch_93 : decode cJ9_vectorizedMismatch 93 = .ok (.lload 16, 2) := dk_22 16 (dk_at dksJ9_vectorizedMismatch_4 0 rfl rfl)
theorem dJ9_vectorizedMismatch_95 : decode cJ9_vectorizedMismatch 95 = .ok (.invokestatic 49, 3) := dk_184 0 49 (dk_at dksJ9_vectorizedMismatch_4 2 rfl rfl)
theorem dJ9_vectorizedMismatch_98 : decode cJ9_vectorizedMismatch 98 = .ok (.getstatic 46, 3) := dk_178 0 46 (dk_at dksJ9_vectorizedMismatch_4 5 rfl rfl)
theorem dJ9_vectorizedMismatch_101 : decode cJ9_vectorizedMismatch 101 = .ok (.iload 7, 2) := dk_21 7 (dk_at dksJ9_vectorizedMismatch_4 8 rfl rfl)
theorem dJ9_vectorizedMismatch_103 : decode cJ9_vectorizedMismatch 103 = .ok (.iadd, 1) := dk_96 (dk_at dksJ9_vectorizedMismatch_4 10 rfl rfl)
theorem dJ9_vectorizedMismatch_104 : decode cJ9_vectorizedMismatch 104 = .ok (.ishr, 1) := dk_122 (dk_at dksJ9_vectorizedMismatch_4 11 rfl rfl)
theorem dJ9_vectorizedMismatch_105 : decode cJ9_vectorizedMismatch 105 = .ok (.istore 18, 2) := dk_54 18 (dk_at dksJ9_vectorizedMismatch_4 12 rfl rfl)
theorem dJ9_vectorizedMismatch_107 : decode cJ9_vectorizedMismatch 107 = .ok (.iload 9, 2) := dk_21 9 (dk_at dksJ9_vectorizedMismatch_4 14 rfl rfl)
theorem dJ9_vectorizedMismatch_109 : decode cJ9_vectorizedMismatch 109 = .ok (.iload 8, 2) := dk_21 8 (dk_at dksJ9_vectorizedMismatch_4 16 rfl rfl)
theorem dJ9_vectorizedMismatch_111 : decode cJ9_vectorizedMismatch 111 = .ok (.ishl, 1) := dk_120 (dk_at dksJ9_vectorizedMismatch_4 18 rfl rfl)
theorem dJ9_vectorizedMismatch_112 : decode cJ9_vectorizedMismatch 112 = .ok (.iload 18, 2) := dk_21 18 (dk_at dksJ9_vectorizedMismatch_4 19 rfl rfl)
theorem dJ9_vectorizedMismatch_114 : decode cJ9_vectorizedMismatch 114 = .ok (.iadd, 1) := dk_96 (dk_at dksJ9_vectorizedMismatch_4 21 rfl rfl)
theorem dJ9_vectorizedMismatch_115 : decode cJ9_vectorizedMismatch 115 = .ok (.ireturn, 1) := dk_172 (dk_at dksJ9_vectorizedMismatch_4 22 rfl rfl)
theorem dJ9_vectorizedMismatch_116 : decode cJ9_vectorizedMismatch 116 = .ok (.iinc 9 1, 3) := dk_132 9 1 (dk_at dksJ9_vectorizedMismatch_5 0 rfl rfl)
theorem dJ9_vectorizedMismatch_119 : decode cJ9_vectorizedMismatch 119 = .ok (.goto (-108), 3) := dk_167 255 148 (dk_at dksJ9_vectorizedMismatch_5 3 rfl rfl)
theorem dJ9_vectorizedMismatch_122 : decode cJ9_vectorizedMismatch 122 = .ok (.iload 6, 2) := dk_21 6 (dk_at dksJ9_vectorizedMismatch_5 6 rfl rfl)
theorem dJ9_vectorizedMismatch_124 : decode cJ9_vectorizedMismatch 124 = .ok (.iload 9, 2) := dk_21 9 (dk_at dksJ9_vectorizedMismatch_5 8 rfl rfl)
theorem dJ9_vectorizedMismatch_126 : decode cJ9_vectorizedMismatch 126 = .ok (.iload 8, 2) := dk_21 8 (dk_at dksJ9_vectorizedMismatch_5 10 rfl rfl)
theorem dJ9_vectorizedMismatch_128 : decode cJ9_vectorizedMismatch 128 = .ok (.ishl, 1) := dk_120 (dk_at dksJ9_vectorizedMismatch_5 12 rfl rfl)
theorem dJ9_vectorizedMismatch_129 : decode cJ9_vectorizedMismatch 129 = .ok (.isub, 1) := dk_100 (dk_at dksJ9_vectorizedMismatch_5 13 rfl rfl)
theorem dJ9_vectorizedMismatch_130 : decode cJ9_vectorizedMismatch 130 = .ok (.istore 10, 2) := dk_54 10 (dk_at dksJ9_vectorizedMismatch_5 14 rfl rfl)
theorem dJ9_vectorizedMismatch_132 : decode cJ9_vectorizedMismatch 132 = .ok (.iload 7, 2) := dk_21 7 (dk_at dksJ9_vectorizedMismatch_5 16 rfl rfl)
theorem dJ9_vectorizedMismatch_134 : decode cJ9_vectorizedMismatch 134 = .ok (.getstatic 51, 3) := dk_178 0 51 (dk_at dksJ9_vectorizedMismatch_5 18 rfl rfl)
theorem dJ9_vectorizedMismatch_137 : decode cJ9_vectorizedMismatch 137 = .ok (.if_icmp .ge 126, 3) := dk_162 0 126 (dk_at dksJ9_vectorizedMismatch_5 21 rfl rfl)
theorem dJ9_vectorizedMismatch_140 : decode cJ9_vectorizedMismatch 140 = .ok (.iconst 1, 1) := dk_4 (dk_at dksJ9_vectorizedMismatch_6 0 rfl rfl)
theorem dJ9_vectorizedMismatch_141 : decode cJ9_vectorizedMismatch 141 = .ok (.getstatic 51, 3) := dk_178 0 51 (dk_at dksJ9_vectorizedMismatch_6 1 rfl rfl)
theorem dJ9_vectorizedMismatch_144 : decode cJ9_vectorizedMismatch 144 = .ok (.iload 7, 2) := dk_21 7 (dk_at dksJ9_vectorizedMismatch_6 4 rfl rfl)
theorem dJ9_vectorizedMismatch_146 : decode cJ9_vectorizedMismatch 146 = .ok (.isub, 1) := dk_100 (dk_at dksJ9_vectorizedMismatch_6 6 rfl rfl)
theorem dJ9_vectorizedMismatch_147 : decode cJ9_vectorizedMismatch 147 = .ok (.ishl, 1) := dk_120 (dk_at dksJ9_vectorizedMismatch_6 7 rfl rfl)
theorem dJ9_vectorizedMismatch_148 : decode cJ9_vectorizedMismatch 148 = .ok (.istore 11, 2) := dk_54 11 (dk_at dksJ9_vectorizedMismatch_6 8 rfl rfl)
theorem dJ9_vectorizedMismatch_150 : decode cJ9_vectorizedMismatch 150 = .ok (.iload 10, 2) := dk_21 10 (dk_at dksJ9_vectorizedMismatch_6 10 rfl rfl)
theorem dJ9_vectorizedMismatch_152 : decode cJ9_vectorizedMismatch 152 = .ok (.iload 11, 2) := dk_21 11 (dk_at dksJ9_vectorizedMismatch_6 12 rfl rfl)
theorem dJ9_vectorizedMismatch_154 : decode cJ9_vectorizedMismatch 154 = .ok (.if_icmp .lt 104, 3) := dk_161 0 104 (dk_at dksJ9_vectorizedMismatch_6 14 rfl rfl)
theorem dJ9_vectorizedMismatch_157 : decode cJ9_vectorizedMismatch 157 = .ok (.iload 9, 2) := dk_21 9 (dk_at dksJ9_vectorizedMismatch_6 17 rfl rfl)
theorem dJ9_vectorizedMismatch_159 : decode cJ9_vectorizedMismatch 159 = .ok (.i2l, 1) := dk_133 (dk_at dksJ9_vectorizedMismatch_6 19 rfl rfl)
theorem dJ9_vectorizedMismatch_160 : decode cJ9_vectorizedMismatch 160 = .ok (.getstatic 20, 3) := dk_178 0 20 (dk_at dksJ9_vectorizedMismatch_6 20 rfl rfl)
theorem dJ9_vectorizedMismatch_163 : decode cJ9_vectorizedMismatch 163 = .ok (.lshl, 1) := dk_121 (dk_at dksJ9_vectorizedMismatch_6 23 rfl rfl)
theorem dJ9_vectorizedMismatch_164 : decode cJ9_vectorizedMismatch 164 = .ok (.lstore 12, 2) := dk_55 12 (dk_at dksJ9_vectorizedMismatch_7 0 rfl rfl)
theorem dJ9_vectorizedMismatch_166 : decode cJ9_vectorizedMismatch 166 = .ok (.getstatic 26, 3) := dk_178 0 26 (dk_at dksJ9_vectorizedMismatch_7 2 rfl rfl)
theorem dJ9_vectorizedMismatch_169 : decode cJ9_vectorizedMismatch 169 = .ok (.aload_n 0, 1) := dk_42 (dk_at dksJ9_vectorizedMismatch_7 5 rfl rfl)
theorem dJ9_vectorizedMismatch_170 : decode cJ9_vectorizedMismatch 170 = .ok (.lload_n 1, 1) := dk_31 (dk_at dksJ9_vectorizedMismatch_7 6 rfl rfl)
theorem dJ9_vectorizedMismatch_171 : decode cJ9_vectorizedMismatch 171 = .ok (.lload 12, 2) := dk_22 12 (dk_at dksJ9_vectorizedMismatch_7 7 rfl rfl)
theorem dJ9_vectorizedMismatch_173 : decode cJ9_vectorizedMismatch 173 = .ok (.ladd, 1) := dk_97 (dk_at dksJ9_vectorizedMismatch_7 9 rfl rfl)
theorem dJ9_vectorizedMismatch_174 : decode cJ9_vectorizedMismatch 174 = .ok (.invokevirtual 54, 3) := dk_182 0 54 (dk_at dksJ9_vectorizedMismatch_7 10 rfl rfl)
theorem dJ9_vectorizedMismatch_177 : decode cJ9_vectorizedMismatch 177 = .ok (.istore 14, 2) := dk_54 14 (dk_at dksJ9_vectorizedMismatch_7 13 rfl rfl)
theorem dJ9_vectorizedMismatch_179 : decode cJ9_vectorizedMismatch 179 = .ok (.getstatic 26, 3) := dk_178 0 26 (dk_at dksJ9_vectorizedMismatch_7 15 rfl rfl)
theorem dJ9_vectorizedMismatch_182 : decode cJ9_vectorizedMismatch 182 = .ok (.aload_n 3, 1) := dk_45 (dk_at dksJ9_vectorizedMismatch_7 18 rfl rfl)
theorem dJ9_vectorizedMismatch_183 : decode cJ9_vectorizedMismatch 183 = .ok (.lload 4, 2) := dk_22 4 (dk_at dksJ9_vectorizedMismatch_7 19 rfl rfl)
theorem dJ9_vectorizedMismatch_185 : decode cJ9_vectorizedMismatch 185 = .ok (.lload 12, 2) := dk_22 12 (dk_at dksJ9_vectorizedMismatch_7 21 rfl rfl)
theorem dJ9_vectorizedMismatch_187 : decode cJ9_vectorizedMismatch 187 = .ok (.ladd, 1) := dk_97 (dk_at dksJ9_vectorizedMismatch_7 23 rfl rfl)
theorem dJ9_vectorizedMismatch_188 : decode cJ9_vectorizedMismatch 188 = .ok (.invokevirtual 54, 3) := dk_182 0 54 (dk_at dksJ9_vectorizedMismatch_8 0 rfl rfl)
theorem dJ9_vectorizedMismatch_191 : decode cJ9_vectorizedMismatch 191 = .ok (.istore 15, 2) := dk_54 15 (dk_at dksJ9_vectorizedMismatch_8 3 rfl rfl)
theorem dJ9_vectorizedMismatch_193 : decode cJ9_vectorizedMismatch 193 = .ok (.iload 14, 2) := dk_21 14 (dk_at dksJ9_vectorizedMismatch_8 5 rfl rfl)
theorem dJ9_vectorizedMismatch_195 : decode cJ9_vectorizedMismatch 195 = .ok (.iload 15, 2) := dk_21 15 (dk_at dksJ9_vectorizedMismatch_8 7 rfl rfl)
theorem dJ9_vectorizedMismatch_197 : decode cJ9_vectorizedMismatch 197 = .ok (.if_icmp .eq 54, 3) := dk_159 0 54 (dk_at dksJ9_vectorizedMismatch_8 9 rfl rfl)
theorem dJ9_vectorizedMismatch_200 : decode cJ9_vectorizedMismatch 200 = .ok (.iload 14, 2) := dk_21 14 (dk_at dksJ9_vectorizedMismatch_8 12 rfl rfl)
theorem dJ9_vectorizedMismatch_202 : decode cJ9_vectorizedMismatch 202 = .ok (.iload 15, 2) := dk_21 15 (dk_at dksJ9_vectorizedMismatch_8 14 rfl rfl)
theorem dJ9_vectorizedMismatch_204 : decode cJ9_vectorizedMismatch 204 = .ok (.ixor, 1) := dk_130 (dk_at dksJ9_vectorizedMismatch_8 16 rfl rfl)
theorem dJ9_vectorizedMismatch_205 : decode cJ9_vectorizedMismatch 205 = .ok (.istore 16, 2) := dk_54 16 (dk_at dksJ9_vectorizedMismatch_8 17 rfl rfl)
theorem dJ9_vectorizedMismatch_207 : decode cJ9_vectorizedMismatch 207 = .ok (.getstatic 36, 3) := dk_178 0 36 (dk_at dksJ9_vectorizedMismatch_8 19 rfl rfl)
theorem dJ9_vectorizedMismatch_210 : decode cJ9_vectorizedMismatch 210 = .ok (.ifCond .eq 18, 3) := dk_153 0 18 (dk_at dksJ9_vectorizedMismatch_9 0 rfl rfl)
theorem dJ9_vectorizedMismatch_213 : decode cJ9_vectorizedMismatch 213 = .ok (.iload 16, 2) := dk_21 16 (dk_at dksJ9_vectorizedMismatch_9 3 rfl rfl)
theorem dJ9_vectorizedMismatch_215 : decode cJ9_vectorizedMismatch 215 = .ok (.invokestatic 58, 3) := dk_184 0 58 (dk_at dksJ9_vectorizedMismatch_9 5 rfl rfl)
theorem dJ9_vectorizedMismatch_218 : decode cJ9_vectorizedMismatch 218 = .ok (.getstatic 46, 3) := dk_178 0 46 (dk_at dksJ9_vectorizedMismatch_9 8 rfl rfl)
theorem dJ9_vectorizedMismatch_221 : decode cJ9_vectorizedMismatch 221 = .ok (.iload 7, 2) := dk_21 7 (dk_at dksJ9_vectorizedMismatch_9 11 rfl rfl)
theorem dJ9_vectorizedMismatch_223 : decode cJ9_vectorizedMismatch 223 = .ok (.iadd, 1) := dk_96 (dk_at dksJ9_vectorizedMismatch_9 13 rfl rfl)
theorem dJ9_vectorizedMismatch_224 : decode cJ9_vectorizedMismatch 224 = .ok (.ishr, 1) := dk_122 (dk_at dksJ9_vectorizedMismatch_9 14 rfl rfl)
theorem dJ9_vectorizedMismatch_225 : decode cJ9_vectorizedMismatch 225 = .ok (.goto 15, 3) := dk_167 0 15 (dk_at dksJ9_vectorizedMismatch_9 15 rfl rfl)
theorem dJ9_vectorizedMismatch_228 : decode cJ9_vectorizedMismatch 228 = .ok (.iload 16, 2) := dk_21 16 (dk_at dksJ9_vectorizedMismatch_9 18 rfl rfl)
theorem dJ9_vectorizedMismatch_230 : decode cJ9_vectorizedMismatch 230 = .ok (.invokestatic 11, 3) := dk_184 0 11 (dk_at dksJ9_vectorizedMismatch_9 20 rfl rfl)
theorem dJ9_vectorizedMismatch_233 : decode cJ9_vectorizedMismatch 233 = .ok (.getstatic 46, 3) := dk_178 0 46 (dk_at dksJ9_vectorizedMismatch_10 0 rfl rfl)
theorem dJ9_vectorizedMismatch_236 : decode cJ9_vectorizedMismatch 236 = .ok (.iload 7, 2) := dk_21 7 (dk_at dksJ9_vectorizedMismatch_10 3 rfl rfl)
theorem dJ9_vectorizedMismatch_238 : decode cJ9_vectorizedMismatch 238 = .ok (.iadd, 1) := dk_96 (dk_at dksJ9_vectorizedMismatch_10 5 rfl rfl)
theorem dJ9_vectorizedMismatch_239 : decode cJ9_vectorizedMismatch 239 = .ok (.ishr, 1) := dk_122 (dk_at dksJ9_vectorizedMismatch_10 6 rfl rfl)
theorem dJ9_vectorizedMismatch_240 : decode cJ9_vectorizedMismatch 240 = .ok (.istore 17, 2) := dk_54 17 (dk_at dksJ9_vectorizedMismatch_10 7 rfl rfl)
theorem dJ9_vectorizedMismatch_242 : decode cJ9_vectorizedMismatch 242 = .ok (.iload 9, 2) := dk_21 9 (dk_at dksJ9_vectorizedMismatch_10 9 rfl rfl)
theorem dJ9_vectorizedMismatch_244 : decode cJ9_vectorizedMismatch 244 = .ok (.iload 8, 2) := dk_21 8 (dk_at dksJ9_vectorizedMismatch_10 11 rfl rfl)
theorem dJ9_vectorizedMismatch_246 : decode cJ9_vectorizedMismatch 246 = .ok (.ishl, 1) := dk_120 (dk_at dksJ9_vectorizedMismatch_10 13 rfl rfl)
theorem dJ9_vectorizedMismatch_247 : decode cJ9_vectorizedMismatch 247 = .ok (.iload 17, 2) := dk_21 17 (dk_at dksJ9_vectorizedMismatch_10 14 rfl rfl)
theorem dJ9_vectorizedMismatch_249 : decode cJ9_vectorizedMismatch 249 = .ok (.iadd, 1) := dk_96 (dk_at dksJ9_vectorizedMismatch_10 16 rfl rfl)
theorem dJ9_vectorizedMismatch_250 : decode cJ9_vectorizedMismatch 250 = .ok (.ireturn, 1) := dk_172 (dk_at dksJ9_vectorizedMismatch_10 17 rfl rfl)
theorem dJ9_vectorizedMismatch_251 : decode cJ9_vectorizedMismatch 251 = .ok (.iload 10, 2) := dk_21 10 (dk_at dksJ9_vectorizedMismatch_10 18 rfl rfl)
theorem dJ9_vectorizedMismatch_253 : decode cJ9_vectorizedMismatch 253 = .ok (.iload 11, 2) := dk_21 11 (dk_at dksJ9_vectorizedMismatch_10 20 rfl rfl)
theorem dJ9_vectorizedMismatch_255 : decode cJ9_vectorizedMismatch 255 = .ok (.isub, 1) := dk_100 (dk_at dksJ9_vectorizedMismatch_10 22 rfl rfl)
theorem dJ9_vectorizedMismatch_256 : decode cJ9_vectorizedMismatch 256 = .ok (.istore 10, 2) := dk_54 10 (dk_at dksJ9_vectorizedMismatch_11 0 rfl rfl)
theorem dJ9_vectorizedMismatch_258 : decode cJ9_vectorizedMismatch 258 = .ok (.iload 10, 2) := dk_21 10 (dk_at dksJ9_vectorizedMismatch_11 2 rfl rfl)
theorem dJ9_vectorizedMismatch_260 : decode cJ9_vectorizedMismatch 260 = .ok (.iconst (-1), 1) := dk_2 (dk_at dksJ9_vectorizedMismatch_11 4 rfl rfl)
theorem dJ9_vectorizedMismatch_261 : decode cJ9_vectorizedMismatch 261 = .ok (.ixor, 1) := dk_130 (dk_at dksJ9_vectorizedMismatch_11 5 rfl rfl)
theorem dJ9_vectorizedMismatch_262 : decode cJ9_vectorizedMismatch 262 = .ok (.ireturn, 1) := dk_172 (dk_at dksJ9_vectorizedMismatch_11 6 rfl rfl)
theorem dJ9_vectorizedMismatch_263 : decode cJ9_vectorizedMismatch 263 = .ok (.iload 10, 2) := dk_21 10 (dk_at dksJ9_vectorizedMismatch_11 7 rfl rfl)
theorem dJ9_vectorizedMismatch_265 : decode cJ9_vectorizedMismatch 265 = .ok (.iconst (-1), 1) := dk_2 (dk_at dksJ9_vectorizedMismatch_11 9 rfl rfl)
theorem dJ9_vectorizedMismatch_266 : decode cJ9_vectorizedMismatch 266 = .ok (.ixor, 1) := dk_130 (dk_at dksJ9_vectorizedMismatch_11 10 rfl rfl)
theorem dJ9_vectorizedMismatch_267 : decode cJ9_vectorizedMismatch 267 = .ok (.ireturn, 1) := dk_172 (dk_at dksJ9_vectorizedMismatch_11 11 rfl rfl)
theorem q101 : (Jvm.Cond.initialized "jdk/internal/util/ArraysSupport") ∈ lw_all := lw_g (lw_at lw_m1 14 rfl) rfl
theorem q441 : (Jvm.Cond.static ({ cls := "jdk/internal/util/ArraysSupport", name := "newLength", desc := "(III)I" } : Jvm.MethodName)) ∈ lw_all := lw_g (lw_at lw_m2 114 rfl) rfl
theorem q442 : (Jvm.Cond.code ({ cls := "jdk/internal/util/ArraysSupport", name := "newLength", desc := "(III)I" } : Jvm.MethodName) prog_76_method_27_code (4 : Nat) (Option.some Jvm.ClassFile.FieldType.int)) ∈ lw_all := lw_g (lw_at lw_m2 115 rfl) rfl
theorem q443 : (Jvm.Cond.methodLink "jdk/internal/util/ArraysSupport" (194 : Nat) ({ cls := "java/lang/Math", name := "max", desc := "(II)I" } : Jvm.MethodName)) ∈ lw_all := lw_g (lw_at lw_m2 116 rfl) rfl
theorem q446 : (Jvm.Cond.constant "jdk/internal/util/ArraysSupport" (200 : Nat) (2147483639 : Int32)) ∈ lw_all := lw_g (lw_at lw_m2 119 rfl) rfl
theorem q447 : (Jvm.Cond.methodLink "jdk/internal/util/ArraysSupport" (201 : Nat) ({ cls := "jdk/internal/util/ArraysSupport", name := "hugeLength", desc := "(II)I" } : Jvm.MethodName)) ∈ lw_all := lw_g (lw_at lw_m2 120 rfl) rfl
theorem q448 : (Jvm.Cond.static ({ cls := "jdk/internal/util/ArraysSupport", name := "hugeLength", desc := "(II)I" } : Jvm.MethodName)) ∈ lw_all := lw_g (lw_at lw_m2 121 rfl) rfl
theorem q449 : (Jvm.Cond.code ({ cls := "jdk/internal/util/ArraysSupport", name := "hugeLength", desc := "(II)I" } : Jvm.MethodName) prog_76_method_28_code (3 : Nat) (Option.some Jvm.ClassFile.FieldType.int)) ∈ lw_all := lw_g (lw_at lw_m2 122 rfl) rfl
theorem q1014 : (Jvm.Cond.static ({ cls := "jdk/internal/util/ArraysSupport", name := "vectorizedHashCode", desc := "(Ljava/lang/Object;IIII)I" } : Jvm.MethodName)) ∈ lw_all := lw_g (lw_at lw_m4 207 rfl) rfl
theorem q1015 : (Jvm.Cond.code ({ cls := "jdk/internal/util/ArraysSupport", name := "vectorizedHashCode", desc := "(Ljava/lang/Object;IIII)I" } : Jvm.MethodName) prog_76_method_4_code (5 : Nat) (Option.some Jvm.ClassFile.FieldType.int)) ∈ lw_all := lw_g (lw_at lw_m4 208 rfl) rfl
theorem q1016 : (Jvm.Cond.classLink "jdk/internal/util/ArraysSupport" (60 : Nat) "[B") ∈ lw_all := lw_g (lw_at lw_m4 209 rfl) rfl
theorem q1017 : (Jvm.Cond.methodLink "jdk/internal/util/ArraysSupport" (62 : Nat) ({ cls := "jdk/internal/util/ArraysSupport", name := "signedHashCode", desc := "(I[BII)I" } : Jvm.MethodName)) ∈ lw_all := lw_g (lw_at lw_m4 210 rfl) rfl
theorem q1018 : (Jvm.Cond.static ({ cls := "jdk/internal/util/ArraysSupport", name := "signedHashCode", desc := "(I[BII)I" } : Jvm.MethodName)) ∈ lw_all := lw_g (lw_at lw_m4 211 rfl) rfl
theorem q1019 : (Jvm.Cond.code ({ cls := "jdk/internal/util/ArraysSupport", name := "signedHashCode", desc := "(I[BII)I" } : Jvm.MethodName) prog_76_method_5_code (6 : Nat) (Option.some Jvm.ClassFile.FieldType.int)) ∈ lw_all := lw_g (lw_at lw_m4 212 rfl) rfl
theorem q1020 : (Jvm.Cond.methodLink "jdk/internal/util/ArraysSupport" (66 : Nat) ({ cls := "jdk/internal/util/ArraysSupport", name := "utf16hashCode", desc := "(I[BII)I" } : Jvm.MethodName)) ∈ lw_all := lw_g (lw_at lw_m4 213 rfl) rfl
theorem q1021 : (Jvm.Cond.static ({ cls := "jdk/internal/util/ArraysSupport", name := "utf16hashCode", desc := "(I[BII)I" } : Jvm.MethodName)) ∈ lw_all := lw_g (lw_at lw_m4 214 rfl) rfl
theorem q1022 : (Jvm.Cond.code ({ cls := "jdk/internal/util/ArraysSupport", name := "utf16hashCode", desc := "(I[BII)I" } : Jvm.MethodName) prog_76_method_10_code (6 : Nat) (Option.some Jvm.ClassFile.FieldType.int)) ∈ lw_all := lw_g (lw_at lw_m4 215 rfl) rfl
theorem q1023 : (Jvm.Cond.fieldLink "jdk/internal/util/ArraysSupport" (106 : Nat) "jdk/internal/util/ArraysSupport" "JLA" "Ljdk/internal/access/JavaLangAccess;") ∈ lw_all := lw_g (lw_at lw_m4 216 rfl) rfl
theorem q1024 : (Jvm.Cond.laysStatic "jdk/internal/util/ArraysSupport" "JLA" "Ljdk/internal/access/JavaLangAccess;") ∈ lw_tbl := lw_at lw_m4 217 rfl
theorem q1025 : (Jvm.Cond.interfaceEntry "jdk/internal/util/ArraysSupport" (110 : Nat)) ∈ lw_tbl := lw_at lw_m4 218 rfl
theorem q1026 : (Jvm.Cond.methodLink "jdk/internal/util/ArraysSupport" (110 : Nat) ({ cls := "jdk/internal/access/JavaLangAccess", name := "getUTF16Char", desc := "([BI)C" } : Jvm.MethodName)) ∈ lw_all := lw_g (lw_at lw_m4 219 rfl) rfl
theorem q1047 : (Jvm.Cond.classLink "jdk/internal/util/ArraysSupport" (69 : Nat) "[C") ∈ lw_all := lw_g (lw_at lw_m5 0 rfl) rfl
theorem q1048 : (Jvm.Cond.methodLink "jdk/internal/util/ArraysSupport" (71 : Nat) ({ cls := "jdk/internal/util/ArraysSupport", name := "hashCode", desc := "(I[CII)I" } : Jvm.MethodName)) ∈ lw_all := lw_g (lw_at lw_m5 1 rfl) rfl
theorem q1049 : (Jvm.Cond.static ({ cls := "jdk/internal/util/ArraysSupport", name := "hashCode", desc := "(I[CII)I" } : Jvm.MethodName)) ∈ lw_all := lw_g (lw_at lw_m5 2 rfl) rfl
theorem q1050 : (Jvm.Cond.code ({ cls := "jdk/internal/util/ArraysSupport", name := "hashCode", desc := "(I[CII)I" } : Jvm.MethodName) prog_76_method_7_code (6 : Nat) (Option.some Jvm.ClassFile.FieldType.int)) ∈ lw_all := lw_g (lw_at lw_m5 3 rfl) rfl
theorem q1051 : (Jvm.Cond.methodLink "jdk/internal/util/ArraysSupport" (75 : Nat) ({ cls := "jdk/internal/util/ArraysSupport", name := "hashCode", desc := "(I[BII)I" } : Jvm.MethodName)) ∈ lw_all := lw_g (lw_at lw_m5 4 rfl) rfl
theorem q1052 : (Jvm.Cond.static ({ cls := "jdk/internal/util/ArraysSupport", name := "hashCode", desc := "(I[BII)I" } : Jvm.MethodName)) ∈ lw_all := lw_g (lw_at lw_m5 5 rfl) rfl
theorem q1053 : (Jvm.Cond.code ({ cls := "jdk/internal/util/ArraysSupport", name := "hashCode", desc := "(I[BII)I" } : Jvm.MethodName) prog_76_method_6_code (6 : Nat) (Option.some Jvm.ClassFile.FieldType.int)) ∈ lw_all := lw_g (lw_at lw_m5 6 rfl) rfl
theorem q1054 : (Jvm.Cond.classLink "jdk/internal/util/ArraysSupport" (77 : Nat) "[S") ∈ lw_all := lw_g (lw_at lw_m5 7 rfl) rfl
theorem q1055 : (Jvm.Cond.methodLink "jdk/internal/util/ArraysSupport" (79 : Nat) ({ cls := "jdk/internal/util/ArraysSupport", name := "hashCode", desc := "(I[SII)I" } : Jvm.MethodName)) ∈ lw_all := lw_g (lw_at lw_m5 8 rfl) rfl
theorem q1056 : (Jvm.Cond.static ({ cls := "jdk/internal/util/ArraysSupport", name := "hashCode", desc := "(I[SII)I" } : Jvm.MethodName)) ∈ lw_all := lw_g (lw_at lw_m5 9 rfl) rfl
theorem q1057 : (Jvm.Cond.code ({ cls := "jdk/internal/util/ArraysSupport", name := "hashCode", desc := "(I[SII)I" } : Jvm.MethodName) prog_76_method_8_code (6 : Nat) (Option.some Jvm.ClassFile.FieldType.int)) ∈ lw_all := lw_g (lw_at lw_m5 10 rfl) rfl
theorem q1058 : (Jvm.Cond.classLink "jdk/internal/util/ArraysSupport" (82 : Nat) "[I") ∈ lw_all := lw_g (lw_at lw_m5 11 rfl) rfl
theorem q1059 : (Jvm.Cond.methodLink "jdk/internal/util/ArraysSupport" (84 : Nat) ({ cls := "jdk/internal/util/ArraysSupport", name := "hashCode", desc := "(I[III)I" } : Jvm.MethodName)) ∈ lw_all := lw_g (lw_at lw_m5 12 rfl) rfl
theorem q1060 : (Jvm.Cond.static ({ cls := "jdk/internal/util/ArraysSupport", name := "hashCode", desc := "(I[III)I" } : Jvm.MethodName)) ∈ lw_all := lw_g (lw_at lw_m5 13 rfl) rfl
theorem q1061 : (Jvm.Cond.code ({ cls := "jdk/internal/util/ArraysSupport", name := "hashCode", desc := "(I[III)I" } : Jvm.MethodName) prog_76_method_9_code (6 : Nat) (Option.some Jvm.ClassFile.FieldType.int)) ∈ lw_all := lw_g (lw_at lw_m5 14 rfl) rfl
theorem q1211 : (Jvm.Cond.static ({ cls := "jdk/internal/util/ArraysSupport", name := "mismatch", desc := "([B[BI)I" } : Jvm.MethodName)) ∈ lw_all := lw_g (lw_at lw_m5 164 rfl) rfl
theorem q1212 : (Jvm.Cond.code ({ cls := "jdk/internal/util/ArraysSupport", name := "mismatch", desc := "([B[BI)I" } : Jvm.MethodName) prog_76_method_13_code (4 : Nat) (Option.some Jvm.ClassFile.FieldType.int)) ∈ lw_all := lw_g (lw_at lw_m5 165 rfl) rfl
theorem q1213 : (Jvm.Cond.fieldLink "jdk/internal/util/ArraysSupport" (126 : Nat) "jdk/internal/misc/Unsafe" "ARRAY_BYTE_BASE_OFFSET" "I") ∈ lw_all := lw_g (lw_at lw_m5 166 rfl) rfl
theorem q1215 : (Jvm.Cond.fieldLink "jdk/internal/util/ArraysSupport" (129 : Nat) "jdk/internal/util/ArraysSupport" "LOG2_ARRAY_BYTE_INDEX_SCALE" "I") ∈ lw_all := lw_g (lw_at lw_m5 168 rfl) rfl
theorem q1216 : (Jvm.Cond.laysStatic "jdk/internal/util/ArraysSupport" "LOG2_ARRAY_BYTE_INDEX_SCALE" "I") ∈ lw_tbl := lw_at lw_m5 169 rfl
theorem q1217 : (Jvm.Cond.methodLink "jdk/internal/util/ArraysSupport" (122 : Nat) ({ cls := "jdk/internal/util/ArraysSupport", name := "vectorizedMismatch", desc := "(Ljava/lang/Object;JLjava/lang/Object;JII)I" } : Jvm.MethodName)) ∈ lw_all := lw_g (lw_at lw_m5 170 rfl) rfl
theorem q1218 : (Jvm.Cond.static ({ cls := "jdk/internal/util/ArraysSupport", name := "vectorizedMismatch", desc := "(Ljava/lang/Object;JLjava/lang/Object;JII)I" } : Jvm.MethodName)) ∈ lw_all := lw_g (lw_at lw_m5 171 rfl) rfl
theorem q1219 : (Jvm.Cond.code ({ cls := "jdk/internal/util/ArraysSupport", name := "vectorizedMismatch", desc := "(Ljava/lang/Object;JLjava/lang/Object;JII)I" } : Jvm.MethodName) prog_76_method_3_code (19 : Nat) (Option.some Jvm.ClassFile.FieldType.int)) ∈ lw_all := lw_g (lw_at lw_m5 172 rfl) rfl
theorem q1220 : (Jvm.Cond.fieldLink "jdk/internal/util/ArraysSupport" (20 : Nat) "jdk/internal/util/ArraysSupport" "LOG2_ARRAY_LONG_INDEX_SCALE" "I") ∈ lw_all := lw_g (lw_at lw_m5 173 rfl) rfl
theorem q1221 : (Jvm.Cond.laysStatic "jdk/internal/util/ArraysSupport" "LOG2_ARRAY_LONG_INDEX_SCALE" "I") ∈ lw_tbl := lw_at lw_m5 174 rfl
theorem q1222 : (Jvm.Cond.fieldLink "jdk/internal/util/ArraysSupport" (26 : Nat) "jdk/internal/util/ArraysSupport" "U" "Ljdk/internal/misc/Unsafe;") ∈ lw_all := lw_g (lw_at lw_m5 175 rfl) rfl
theorem q1223 : (Jvm.Cond.laysStatic "jdk/internal/util/ArraysSupport" "U" "Ljdk/internal/misc/Unsafe;") ∈ lw_tbl := lw_at lw_m5 176 rfl
theorem q1224 : (Jvm.Cond.methodLink "jdk/internal/util/ArraysSupport" (30 : Nat) ({ cls := "jdk/internal/misc/Unsafe", name := "getLongUnaligned", desc := "(Ljava/lang/Object;J)J" } : Jvm.MethodName)) ∈ lw_all := lw_g (lw_at lw_m5 177 rfl) rfl
theorem q1276 : (Jvm.Cond.fieldLink "jdk/internal/util/ArraysSupport" (36 : Nat) "jdk/internal/util/ArraysSupport" "BIG_ENDIAN" "Z") ∈ lw_all := lw_g (lw_at lw_m5 229 rfl) rfl
theorem q1277 : (Jvm.Cond.laysStatic "jdk/internal/util/ArraysSupport" "BIG_ENDIAN" "Z") ∈ lw_tbl := lw_at lw_m5 230 rfl
theorem q1278 : (Jvm.Cond.methodLink "jdk/internal/util/ArraysSupport" (40 : Nat) ({ cls := "java/lang/Long", name := "numberOfLeadingZeros", desc := "(J)I" } : Jvm.MethodName)) ∈ lw_all := lw_g (lw_at lw_m5 231 rfl) rfl
theorem q1282 : (Jvm.Cond.fieldLink "jdk/internal/util/ArraysSupport" (46 : Nat) "jdk/internal/util/ArraysSupport" "LOG2_BYTE_BIT_SIZE" "I") ∈ lw_all := lw_g (lw_at lw_m5 235 rfl) rfl
theorem q1283 : (Jvm.Cond.laysStatic "jdk/internal/util/ArraysSupport" "LOG2_BYTE_BIT_SIZE" "I") ∈ lw_tbl := lw_at lw_m5 236 rfl
theorem q1284 : (Jvm.Cond.methodLink "jdk/internal/util/ArraysSupport" (49 : Nat) ({ cls := "java/lang/Long", name := "numberOfTrailingZeros", desc := "(J)I" } : Jvm.MethodName)) ∈ lw_all := lw_g (lw_at lw_m5 237 rfl) rfl
theorem q1290 : (Jvm.Cond.fieldLink "jdk/internal/util/ArraysSupport" (51 : Nat) "jdk/internal/util/ArraysSupport" "LOG2_ARRAY_INT_INDEX_SCALE" "I") ∈ lw_all := lw_g (lw_at lw_m6 3 rfl) rfl
theorem q1291 : (Jvm.Cond.laysStatic "jdk/internal/util/ArraysSupport" "LOG2_ARRAY_INT_INDEX_SCALE" "I") ∈ lw_tbl := lw_at lw_m6 4 rfl
theorem q1292 : (Jvm.Cond.methodLink "jdk/internal/util/ArraysSupport" (54 : Nat) ({ cls := "jdk/internal/misc/Unsafe", name := "getIntUnaligned", desc := "(Ljava/lang/Object;J)I" } : Jvm.MethodName)) ∈ lw_all := lw_g (lw_at lw_m6 5 rfl) rfl
theorem q1309 : (Jvm.Cond.methodLink "jdk/internal/util/ArraysSupport" (58 : Nat) ({ cls := "java/lang/Integer", name := "numberOfLeadingZeros", desc := "(I)I" } : Jvm.MethodName)) ∈ lw_all := lw_g (lw_at lw_m6 22 rfl) rfl
theorem q1310 : (Jvm.Cond.methodLink "jdk/internal/util/ArraysSupport" (11 : Nat) ({ cls := "java/lang/Integer", name := "numberOfTrailingZeros", desc := "(I)I" } : Jvm.MethodName)) ∈ lw_all := lw_g (lw_at lw_m6 23 rfl) rfl
/-! java/lang/Math -/
set_option maxRecDepth 100000
def RJ10 : String := "java/lang/Math"
abbrev cJ10_max : ByteArray := prog_24_method_65_code
def yJ10_max : MethodName := ⟨RJ10, "max", "(II)I"⟩
def dkwJ10_max_0 : List UInt8 := [26, 27, 161, 0, 7, 26, 167, 0, 4, 27, 172]
abbrev dktJ10_max_0 : List UInt8 := dkwJ10_max_0 ++ []
theorem dksJ10_max_0 : cJ10_max.data.toList.drop 0 = dktJ10_max_0 := by decide +kernel
theorem dJ10_max_0 : decode cJ10_max 0 = .ok (.iload_n 0, 1) := dk_26 (dk_at dksJ10_max_0 0 rfl rfl)
theorem dJ10_max_1 : decode cJ10_max 1 = .ok (.iload_n 1, 1) := dk_27 (dk_at dksJ10_max_0 1 rfl rfl)
theorem dJ10_max_2 : decode cJ10_max 2 = .ok (.if_icmp .lt 7, 3) := dk_161 0 7 (dk_at dksJ10_max_0 2 rfl rfl)
theorem dJ10_max_5 : decode cJ10_max 5 = .ok (.iload_n 0, 1) := dk_26 (dk_at dksJ10_max_0 5 rfl rfl)
theorem dJ10_max_6 : decode cJ10_max 6 = .ok (.goto 4, 3) := dk_167 0 4 (dk_at dksJ10_max_0 6 rfl rfl)
theorem dJ10_max_9 : decode cJ10_max 9 = .ok (.iload_n 1, 1) := dk_27 (dk_at dksJ10_max_0 9 rfl rfl)
theorem dJ10_max_10 : decode cJ10_max 10 = .ok (.ireturn, 1) := dk_172 (dk_at dksJ10_max_0 10 rfl rfl)
abbrev cJ10_min : ByteArray := prog_24_method_69_code
def yJ10_min : MethodName := ⟨RJ10, "min", "(II)I"⟩
def dkwJ10_min_0 : List UInt8 := [26, 27, 163, 0, 7, 26, 167, 0, 4, 27, 172]
abbrev dktJ10_min_0 : List UInt8 := dkwJ10_min_0 ++ []
theorem dksJ10_min_0 : cJ10_min.data.toList.drop 0 = dktJ10_min_0 := by decide +kernel
theorem dJ10_min_0 : decode cJ10_min 0 = .ok (.iload_n 0, 1) := dk_26 (dk_at dksJ10_min_0 0 rfl rfl)
theorem dJ10_min_1 : decode cJ10_min 1 = .ok (.iload_n 1, 1) := dk_27 (dk_at dksJ10_min_0 1 rfl rfl)
theorem dJ10_min_2 : decode cJ10_min 2 = .ok (.if_icmp .gt 7, 3) := dk_163 0 7 (dk_at dksJ10_min_0 2 rfl rfl)
theorem dJ10_min_5 : decode cJ10_min 5 = .ok (.iload_n 0, 1) := dk_26 (dk_at dksJ10_min_0 5 rfl rfl)
theorem dJ10_min_6 : decode cJ10_min 6 = .ok (.goto 4, 3) := dk_167 0 4 (dk_at dksJ10_min_0 6 rfl rfl)
theorem dJ10_min_9 : decode cJ10_min 9 = .ok (.iload_n 1, 1) := dk_27 (dk_at dksJ10_min_0 9 rfl rfl)
theorem dJ10_min_10 : decode cJ10_min 10 = .ok (.ireturn, 1) := dk_172 (dk_at dksJ10_min_0 10 rfl rfl)
theorem q102 : (Jvm.Cond.initialized "java/lang/Math") ∈ lw_all := lw_g (lw_at lw_m1 15 rfl) rfl
theorem q444 : (Jvm.Cond.static ({ cls := "java/lang/Math", name := "max", desc := "(II)I" } : Jvm.MethodName)) ∈ lw_all := lw_g (lw_at lw_m2 117 rfl) rfl
theorem q445 : (Jvm.Cond.code ({ cls := "java/lang/Math", name := "max", desc := "(II)I" } : Jvm.MethodName) prog_24_method_65_code (2 : Nat) (Option.some Jvm.ClassFile.FieldType.int)) ∈ lw_all := lw_g (lw_at lw_m2 118 rfl) rfl
theorem q493 : (Jvm.Cond.static ({ cls := "java/lang/Math", name := "min", desc := "(II)I" } : Jvm.MethodName)) ∈ lw_all := lw_g (lw_at lw_m2 166 rfl) rfl
theorem q494 : (Jvm.Cond.code ({ cls := "java/lang/Math", name := "min", desc := "(II)I" } : Jvm.MethodName) prog_24_method_69_code (2 : Nat) (Option.some Jvm.ClassFile.FieldType.int)) ∈ lw_all := lw_g (lw_at lw_m2 167 rfl) rfl
/-! java/util/Arrays -/
set_option maxRecDepth 100000
def RJ11 : String := "java/util/Arrays"
abbrev cJ11_copyOf : ByteArray := prog_43_method_119_code
def yJ11_copyOf : MethodName := ⟨RJ11, "copyOf", "([Ljava/lang/Object;I)[Ljava/lang/Object;"⟩
def dkwJ11_copyOf_0 : List UInt8 := [42, 27, 42, 182, 0, 86, 184, 1, 44, 176]
abbrev dktJ11_copyOf_0 : List UInt8 := dkwJ11_copyOf_0 ++ []
theorem dksJ11_copyOf_0 : cJ11_copyOf.data.toList.drop 0 = dktJ11_copyOf_0 := by decide +kernel
theorem dJ11_copyOf_0 : decode cJ11_copyOf 0 = .ok (.aload_n 0, 1) := dk_42 (dk_at dksJ11_copyOf_0 0 rfl rfl)
theorem dJ11_copyOf_1 : decode cJ11_copyOf 1 = .ok (.iload_n 1, 1) := dk_27 (dk_at dksJ11_copyOf_0 1 rfl rfl)
theorem dJ11_copyOf_2 : decode cJ11_copyOf 2 = .ok (.aload_n 0, 1) := dk_42 (dk_at dksJ11_copyOf_0 2 rfl rfl)
theorem dJ11_copyOf_3 : decode cJ11_copyOf 3 = .ok (.invokevirtual 86, 3) := dk_182 0 86 (dk_at dksJ11_copyOf_0 3 rfl rfl)
theorem dJ11_copyOf_6 : decode cJ11_copyOf 6 = .ok (.invokestatic 300, 3) := dk_184 1 44 (dk_at dksJ11_copyOf_0 6 rfl rfl)
theorem dJ11_copyOf_9 : decode cJ11_copyOf 9 = .ok (.areturn, 1) := dk_176 (dk_at dksJ11_copyOf_0 9 rfl rfl)
abbrev cJ11_copyOf_2 : ByteArray := prog_43_method_120_code
def yJ11_copyOf_2 : MethodName := ⟨RJ11, "copyOf", "([Ljava/lang/Object;ILjava/lang/Class;)[Ljava/lang/Object;"⟩
def dkwJ11_copyOf_2_1 : List UInt8 := [78, 42, 3, 45, 3, 42, 190, 27, 184, 1, 48, 184, 0, 150, 45, 176]
abbrev dktJ11_copyOf_2_1 : List UInt8 := dkwJ11_copyOf_2_1 ++ []
def dkwJ11_copyOf_2_0 : List UInt8 := [44, 18, 110, 166, 0, 10, 27, 189, 0, 2, 167, 0, 14, 44, 182, 0, 90, 27, 184, 0, 95, 192, 0, 110]
abbrev dktJ11_copyOf_2_0 : List UInt8 := dkwJ11_copyOf_2_0 ++ dktJ11_copyOf_2_1
theorem dksJ11_copyOf_2_0 : cJ11_copyOf_2.data.toList.drop 0 = dktJ11_copyOf_2_0 := by decide +kernel
theorem dksJ11_copyOf_2_1 : cJ11_copyOf_2.data.toList.drop 24 = dktJ11_copyOf_2_1 := dk_seg dksJ11_copyOf_2_0 24 rfl rfl
theorem dJ11_copyOf_2_0 : decode cJ11_copyOf_2 0 = .ok (.aload_n 2, 1) := dk_44 (dk_at dksJ11_copyOf_2_0 0 rfl rfl)
theorem dJ11_copyOf_2_1 : decode cJ11_copyOf_2 1 = .ok (.ldc 110, 2) := dk_18 110 (dk_at dksJ11_copyOf_2_0 1 rfl rfl)
theorem dJ11_copyOf_2_3 : decode cJ11_copyOf_2 3 = .ok (.if_acmp .ne 10, 3) := dk_166 0 10 (dk_at dksJ11_copyOf_2_0 3 rfl rfl)
theorem dJ11_copyOf_2_6 : decode cJ11_copyOf_2 6 = .ok (.iload_n 1, 1) := dk_27 (dk_at dksJ11_copyOf_2_0 6 rfl rfl)
theorem dJ11_copyOf_2_7 : decode cJ11_copyOf_2 7 = .ok (.anewarray 2, 3) := dk_189 0 2 (dk_at dksJ11_copyOf_2_0 7 rfl rfl)
theorem dJ11_copyOf_2_10 : decode cJ11_copyOf_2 10 = .ok (.goto 14, 3) := dk_167 0 14 (dk_at dksJ11_copyOf_2_0 10 rfl rfl)
theorem dJ11_copyOf_2_13 : decode cJ11_copyOf_2 13 = .ok (.aload_n 2, 1) := dk_44 (dk_at dksJ11_copyOf_2_0 13 rfl rfl)
theorem dJ11_copyOf_2_14 : decode cJ11_copyOf_2 14 = .ok (.invokevirtual 90, 3) := dk_182 0 90 (dk_at dksJ11_copyOf_2_0 14 rfl rfl)
theorem dJ11_copyOf_2_17 : decode cJ11_copyOf_2 17 = .ok (.iload_n 1, 1) := dk_27 (dk_at dksJ11_copyOf_2_0 17 rfl rfl)
theorem dJ11_copyOf_2_18 : decode cJ11_copyOf_2 18 = .ok (.invokestatic 95, 3) := dk_184 0 95 (dk_at dksJ11_copyOf_2_0 18 rfl rfl)
theorem dJ11_copyOf_2_21 : decode cJ11_copyOf_2 21 = .ok (.checkcast 110, 3) := dk_192 0 110 (dk_at dksJ11_copyOf_2_0 21 rfl rfl)
theorem dJ11_copyOf_2_24 : decode cJ11_copyOf_2 24 = .ok (.astore_n 3, 1) := dk_78 (dk_at dksJ11_copyOf_2_1 0 rfl rfl)
theorem dJ11_copyOf_2_25 : decode cJ11_copyOf_2 25 = .ok (.aload_n 0, 1) := dk_42 (dk_at dksJ11_copyOf_2_1 1 rfl rfl)
theorem dJ11_copyOf_2_26 : decode cJ11_copyOf_2 26 = .ok (.iconst 0, 1) := dk_3 (dk_at dksJ11_copyOf_2_1 2 rfl rfl)
theorem dJ11_copyOf_2_27 : decode cJ11_copyOf_2 27 = .ok (.aload_n 3, 1) := dk_45 (dk_at dksJ11_copyOf_2_1 3 rfl rfl)
theorem dJ11_copyOf_2_28 : decode cJ11_copyOf_2 28 = .ok (.iconst 0, 1) := dk_3 (dk_at dksJ11_copyOf_2_1 4 rfl rfl)
theorem dJ11_copyOf_2_29 : decode cJ11_copyOf_2 29 = .ok (.aload_n 0, 1) := dk_42 (dk_at dksJ11_copyOf_2_1 5 rfl rfl)
theorem dJ11_copyOf_2_30 : decode cJ11_copyOf_2 30 = .ok (.arraylength, 1) := dk_190 (dk_at dksJ11_copyOf_2_1 6 rfl rfl)
theorem dJ11_copyOf_2_31 : decode cJ11_copyOf_2 31 = .ok (.iload_n 1, 1) := dk_27 (dk_at dksJ11_copyOf_2_1 7 rfl rfl)
theorem dJ11_copyOf_2_32 : decode cJ11_copyOf_2 32 = .ok (.invokestatic 304, 3) := dk_184 1 48 (dk_at dksJ11_copyOf_2_1 8 rfl rfl)
theorem dJ11_copyOf_2_35 : decode cJ11_copyOf_2 35 = .ok (.invokestatic 150, 3) := dk_184 0 150 (dk_at dksJ11_copyOf_2_1 11 rfl rfl)
theorem dJ11_copyOf_2_38 : decode cJ11_copyOf_2 38 = .ok (.aload_n 3, 1) := dk_45 (dk_at dksJ11_copyOf_2_1 14 rfl rfl)
theorem dJ11_copyOf_2_39 : decode cJ11_copyOf_2 39 = .ok (.areturn, 1) := dk_176 (dk_at dksJ11_copyOf_2_1 15 rfl rfl)
abbrev cJ11_copyOf_3 : ByteArray := prog_43_method_124_code
def yJ11_copyOf_3 : MethodName := ⟨RJ11, "copyOf", "([JI)[J"⟩
def dkwJ11_copyOf_3_1 : List UInt8 := [27, 184, 1, 48, 184, 0, 150, 44, 176]
abbrev dktJ11_copyOf_3_1 : List UInt8 := dkwJ11_copyOf_3_1 ++ []
def dkwJ11_copyOf_3_0 : List UInt8 := [27, 42, 190, 160, 0, 11, 42, 182, 1, 63, 192, 1, 64, 176, 27, 188, 11, 77, 42, 3, 44, 3, 42, 190]
abbrev dktJ11_copyOf_3_0 : List UInt8 := dkwJ11_copyOf_3_0 ++ dktJ11_copyOf_3_1
theorem dksJ11_copyOf_3_0 : cJ11_copyOf_3.data.toList.drop 0 = dktJ11_copyOf_3_0 := by decide +kernel
theorem dksJ11_copyOf_3_1 : cJ11_copyOf_3.data.toList.drop 24 = dktJ11_copyOf_3_1 := dk_seg dksJ11_copyOf_3_0 24 rfl rfl
theorem dJ11_copyOf_3_0 : decode cJ11_copyOf_3 0 = .ok (.iload_n 1, 1) := dk_27 (dk_at dksJ11_copyOf_3_0 0 rfl rfl)
theorem dJ11_copyOf_3_1 : decode cJ11_copyOf_3 1 = .ok (.aload_n 0, 1) := dk_42 (dk_at dksJ11_copyOf_3_0 1 rfl rfl)
theorem dJ11_copyOf_3_2 : decode cJ11_copyOf_3 2 = .ok (.arraylength, 1) := dk_190 (dk_at dksJ11_copyOf_3_0 2 rfl rfl)
theorem dJ11_copyOf_3_3 : decode cJ11_copyOf_3 3 = .ok (.if_icmp .ne 11, 3) := dk_160 0 11 (dk_at dksJ11_copyOf_3_0 3 rfl rfl)
theorem dJ11_copyOf_3_6 : decode cJ11_copyOf_3 6 = .ok (.aload_n 0, 1) := dk_42 (dk_at dksJ11_copyOf_3_0 6 rfl rfl)
theorem dJ11_copyOf_3_7 : decode cJ11_copyOf_3 7 = .ok (.invokevirtual 319, 3) := dk_182 1 63 (dk_at dksJ11_copyOf_3_0 7 rfl rfl)
theorem dJ11_copyOf_3_10 : decode cJ11_copyOf_3 10 = .ok (.checkcast 320, 3) := dk_192 1 64 (dk_at dksJ11_copyOf_3_0 10 rfl rfl)
theorem dJ11_copyOf_3_13 : decode cJ11_copyOf_3 13 = .ok (.areturn, 1) := dk_176 (dk_at dksJ11_copyOf_3_0 13 rfl rfl)
theorem dJ11_copyOf_3_14 : decode cJ11_copyOf_3 14 = .ok (.iload_n 1, 1) := dk_27 (dk_at dksJ11_copyOf_3_0 14 rfl rfl)
theorem dJ11_copyOf_3_15 : decode cJ11_copyOf_3 15 = .ok (.newarray .long, 2) := dk_188_11 (dk_at dksJ11_copyOf_3_0 15 rfl rfl)
theorem dJ11_copyOf_3_17 : decode cJ11_copyOf_3 17 = .ok (.astore_n 2, 1) := dk_77 (dk_at dksJ11_copyOf_3_0 17 rfl rfl)
theorem dJ11_copyOf_3_18 : decode cJ11_copyOf_3 18 = .ok (.aload_n 0, 1) := dk_42 (dk_at dksJ11_copyOf_3_0 18 rfl rfl)
theorem dJ11_copyOf_3_19 : decode cJ11_copyOf_3 19 = .ok (.iconst 0, 1) := dk_3 (dk_at dksJ11_copyOf_3_0 19 rfl rfl)
theorem dJ11_copyOf_3_20 : decode cJ11_copyOf_3 20 = .ok (.aload_n 2, 1) := dk_44 (dk_at dksJ11_copyOf_3_0 20 rfl rfl)
theorem dJ11_copyOf_3_21 : decode cJ11_copyOf_3 21 = .ok (.iconst 0, 1) := dk_3 (dk_at dksJ11_copyOf_3_0 21 rfl rfl)
theorem dJ11_copyOf_3_22 : decode cJ11_copyOf_3 22 = .ok (.aload_n 0, 1) := dk_42 (dk_at dksJ11_copyOf_3_0 22 rfl rfl)
theorem dJ11_copyOf_3_23 : decode cJ11_copyOf_3 23 = .ok (.arraylength, 1) := dk_190 (dk_at dksJ11_copyOf_3_0 23 rfl rfl)
theorem dJ11_copyOf_3_24 : decode cJ11_copyOf_3 24 = .ok (.iload_n 1, 1) := dk_27 (dk_at dksJ11_copyOf_3_1 0 rfl rfl)
theorem dJ11_copyOf_3_25 : decode cJ11_copyOf_3 25 = .ok (.invokestatic 304, 3) := dk_184 1 48 (dk_at dksJ11_copyOf_3_1 1 rfl rfl)
theorem dJ11_copyOf_3_28 : decode cJ11_copyOf_3 28 = .ok (.invokestatic 150, 3) := dk_184 0 150 (dk_at dksJ11_copyOf_3_1 4 rfl rfl)
theorem dJ11_copyOf_3_31 : decode cJ11_copyOf_3 31 = .ok (.aload_n 2, 1) := dk_44 (dk_at dksJ11_copyOf_3_1 7 rfl rfl)
theorem dJ11_copyOf_3_32 : decode cJ11_copyOf_3 32 = .ok (.areturn, 1) := dk_176 (dk_at dksJ11_copyOf_3_1 8 rfl rfl)
abbrev cJ11_copyOf_4 : ByteArray := prog_43_method_121_code
def yJ11_copyOf_4 : MethodName := ⟨RJ11, "copyOf", "([BI)[B"⟩
def dkwJ11_copyOf_4_1 : List UInt8 := [27, 184, 1, 48, 184, 0, 150, 44, 176]
abbrev dktJ11_copyOf_4_1 : List UInt8 := dkwJ11_copyOf_4_1 ++ []
def dkwJ11_copyOf_4_0 : List UInt8 := [27, 42, 190, 160, 0, 11, 42, 182, 1, 54, 192, 1, 55, 176, 27, 188, 8, 77, 42, 3, 44, 3, 42, 190]
abbrev dktJ11_copyOf_4_0 : List UInt8 := dkwJ11_copyOf_4_0 ++ dktJ11_copyOf_4_1
theorem dksJ11_copyOf_4_0 : cJ11_copyOf_4.data.toList.drop 0 = dktJ11_copyOf_4_0 := by decide +kernel
theorem dksJ11_copyOf_4_1 : cJ11_copyOf_4.data.toList.drop 24 = dktJ11_copyOf_4_1 := dk_seg dksJ11_copyOf_4_0 24 rfl rfl
theorem dJ11_copyOf_4_0 : decode cJ11_copyOf_4 0 = .ok (.iload_n 1, 1) := dk_27 (dk_at dksJ11_copyOf_4_0 0 rfl rfl)
theorem dJ11_copyOf_4_1 : decode cJ11_copyOf_4 1 = .ok (.aload_n 0, 1) := dk_42 (dk_at dksJ11_copyOf_4_0 1 rfl rfl)
theorem dJ11_copyOf_4_2 : decode cJ11_copyOf_4 2 = .ok (.arraylength, 1) := dk_190 (dk_at dksJ11_copyOf_4_0 2 rfl rfl)
theorem dJ11_copyOf_4_3 : decode cJ11_copyOf_4 3 = .ok (.if_icmp .ne 11, 3) := dk_160 0 11 (dk_at dksJ11_copyOf_4_0 3 rfl rfl)
theorem dJ11_copyOf_4_6 : decode cJ11_copyOf_4 6 = .ok (.aload_n 0, 1) := dk_42 (dk_at dksJ11_copyOf_4_0 6 rfl rfl)
theorem dJ11_copyOf_4_7 : decode cJ11_copyOf_4 7 = .ok (.invokevirtual 310, 3) := dk_182 1 54 (dk_at dksJ11_copyOf_4_0 7 rfl rfl)
theorem dJ11_copyOf_4_10 : decode cJ11_copyOf_4 10 = .ok (.checkcast 311, 3) := dk_192 1 55 (dk_at dksJ11_copyOf_4_0 10 rfl rfl)
theorem dJ11_copyOf_4_13 : decode cJ11_copyOf_4 13 = .ok (.areturn, 1) := dk_176 (dk_at dksJ11_copyOf_4_0 13 rfl rfl)
theorem dJ11_copyOf_4_14 : decode cJ11_copyOf_4 14 = .ok (.iload_n 1, 1) := dk_27 (dk_at dksJ11_copyOf_4_0 14 rfl rfl)
theorem dJ11_copyOf_4_15 : decode cJ11_copyOf_4 15 = .ok (.newarray .byte, 2) := dk_188_8 (dk_at dksJ11_copyOf_4_0 15 rfl rfl)
theorem dJ11_copyOf_4_17 : decode cJ11_copyOf_4 17 = .ok (.astore_n 2, 1) := dk_77 (dk_at dksJ11_copyOf_4_0 17 rfl rfl)
theorem dJ11_copyOf_4_18 : decode cJ11_copyOf_4 18 = .ok (.aload_n 0, 1) := dk_42 (dk_at dksJ11_copyOf_4_0 18 rfl rfl)
theorem dJ11_copyOf_4_19 : decode cJ11_copyOf_4 19 = .ok (.iconst 0, 1) := dk_3 (dk_at dksJ11_copyOf_4_0 19 rfl rfl)
theorem dJ11_copyOf_4_20 : decode cJ11_copyOf_4 20 = .ok (.aload_n 2, 1) := dk_44 (dk_at dksJ11_copyOf_4_0 20 rfl rfl)
theorem dJ11_copyOf_4_21 : decode cJ11_copyOf_4 21 = .ok (.iconst 0, 1) := dk_3 (dk_at dksJ11_copyOf_4_0 21 rfl rfl)
theorem dJ11_copyOf_4_22 : decode cJ11_copyOf_4 22 = .ok (.aload_n 0, 1) := dk_42 (dk_at dksJ11_copyOf_4_0 22 rfl rfl)
theorem dJ11_copyOf_4_23 : decode cJ11_copyOf_4 23 = .ok (.arraylength, 1) := dk_190 (dk_at dksJ11_copyOf_4_0 23 rfl rfl)
theorem dJ11_copyOf_4_24 : decode cJ11_copyOf_4 24 = .ok (.iload_n 1, 1) := dk_27 (dk_at dksJ11_copyOf_4_1 0 rfl rfl)
theorem dJ11_copyOf_4_25 : decode cJ11_copyOf_4 25 = .ok (.invokestatic 304, 3) := dk_184 1 48 (dk_at dksJ11_copyOf_4_1 1 rfl rfl)
theorem dJ11_copyOf_4_28 : decode cJ11_copyOf_4 28 = .ok (.invokestatic 150, 3) := dk_184 0 150 (dk_at dksJ11_copyOf_4_1 4 rfl rfl)
theorem dJ11_copyOf_4_31 : decode cJ11_copyOf_4 31 = .ok (.aload_n 2, 1) := dk_44 (dk_at dksJ11_copyOf_4_1 7 rfl rfl)
theorem dJ11_copyOf_4_32 : decode cJ11_copyOf_4 32 = .ok (.areturn, 1) := dk_176 (dk_at dksJ11_copyOf_4_1 8 rfl rfl)
abbrev cJ11_fill : ByteArray := prog_43_method_110_code
def yJ11_fill : MethodName := ⟨RJ11, "fill", "([BIIB)V"⟩
def dkwJ11_fill_1 : List UInt8 := [167, 255, 242, 177]
abbrev dktJ11_fill_1 : List UInt8 := dkwJ11_fill_1 ++ []
def dkwJ11_fill_0 : List UInt8 := [42, 190, 27, 28, 184, 0, 13, 27, 54, 4, 21, 4, 28, 162, 0, 14, 42, 21, 4, 29, 84, 132, 4, 1]
abbrev dktJ11_fill_0 : List UInt8 := dkwJ11_fill_0 ++ dktJ11_fill_1
theorem dksJ11_fill_0 : cJ11_fill.data.toList.drop 0 = dktJ11_fill_0 := by decide +kernel
theorem dksJ11_fill_1 : cJ11_fill.data.toList.drop 24 = dktJ11_fill_1 := dk_seg dksJ11_fill_0 24 rfl rfl
theorem dJ11_fill_0 : decode cJ11_fill 0 = .ok (.aload_n 0, 1) := dk_42 (dk_at dksJ11_fill_0 0 rfl rfl)
theorem dJ11_fill_1 : decode cJ11_fill 1 = .ok (.arraylength, 1) := dk_190 (dk_at dksJ11_fill_0 1 rfl rfl)
theorem dJ11_fill_2 : decode cJ11_fill 2 = .ok (.iload_n 1, 1) := dk_27 (dk_at dksJ11_fill_0 2 rfl rfl)
theorem dJ11_fill_3 : decode cJ11_fill 3 = .ok (.iload_n 2, 1) := dk_28 (dk_at dksJ11_fill_0 3 rfl rfl)
theorem dJ11_fill_4 : decode cJ11_fill 4 = .ok (.invokestatic 13, 3) := dk_184 0 13 (dk_at dksJ11_fill_0 4 rfl rfl)
theorem dJ11_fill_7 : decode cJ11_fill 7 = .ok (.iload_n 1, 1) := dk_27 (dk_at dksJ11_fill_0 7 rfl rfl)
theorem dJ11_fill_8 : decode cJ11_fill 8 = .ok (.istore 4, 2) := dk_54 4 (dk_at dksJ11_fill_0 8 rfl rfl)
theorem dJ11_fill_10 : decode cJ11_fill 10 = .ok (.iload 4, 2) := dk_21 4 (dk_at dksJ11_fill_0 10 rfl rfl)
theorem dJ11_fill_12 : decode cJ11_fill 12 = .ok (.iload_n 2, 1) := dk_28 (dk_at dksJ11_fill_0 12 rfl rfl)
theorem dJ11_fill_13 : decode cJ11_fill 13 = .ok (.if_icmp .ge 14, 3) := dk_162 0 14 (dk_at dksJ11_fill_0 13 rfl rfl)
theorem dJ11_fill_16 : decode cJ11_fill 16 = .ok (.aload_n 0, 1) := dk_42 (dk_at dksJ11_fill_0 16 rfl rfl)
theorem dJ11_fill_17 : decode cJ11_fill 17 = .ok (.iload 4, 2) := dk_21 4 (dk_at dksJ11_fill_0 17 rfl rfl)
theorem dJ11_fill_19 : decode cJ11_fill 19 = .ok (.iload_n 3, 1) := dk_29 (dk_at dksJ11_fill_0 19 rfl rfl)
theorem dJ11_fill_20 : decode cJ11_fill 20 = .ok (.bastore, 1) := dk_84 (dk_at dksJ11_fill_0 20 rfl rfl)
theorem dJ11_fill_21 : decode cJ11_fill 21 = .ok (.iinc 4 1, 3) := dk_132 4 1 (dk_at dksJ11_fill_0 21 rfl rfl)
theorem dJ11_fill_24 : decode cJ11_fill 24 = .ok (.goto (-14), 3) := dk_167 255 242 (dk_at dksJ11_fill_1 0 rfl rfl)
theorem dJ11_fill_27 : decode cJ11_fill 27 = .ok (.return_, 1) := dk_177 (dk_at dksJ11_fill_1 3 rfl rfl)
abbrev cJ11_rangeCheck : ByteArray := prog_43_method_30_code
def yJ11_rangeCheck : MethodName := ⟨RJ11, "rangeCheck", "(III)V"⟩
def dkwJ11_rangeCheck_3 : List UInt8 := [183, 0, 70, 191, 177]
abbrev dktJ11_rangeCheck_3 : List UInt8 := dkwJ11_rangeCheck_3 ++ []
def dkwJ11_rangeCheck_2 : List UInt8 := [27, 156, 0, 12, 187, 0, 68, 89, 27, 183, 0, 70, 191, 28, 26, 164, 0, 12, 187, 0, 68, 89, 28]
abbrev dktJ11_rangeCheck_2 : List UInt8 := dkwJ11_rangeCheck_2 ++ dktJ11_rangeCheck_3
def dkwJ11_rangeCheck_1 : List UInt8 := [182, 0, 54, 18, 57, 182, 0, 50, 28, 182, 0, 54, 18, 59, 182, 0, 50, 182, 0, 61, 183, 0, 65, 191]
abbrev dktJ11_rangeCheck_1 : List UInt8 := dkwJ11_rangeCheck_1 ++ dktJ11_rangeCheck_2
def dkwJ11_rangeCheck_0 : List UInt8 := [27, 28, 164, 0, 44, 187, 0, 43, 89, 187, 0, 45, 89, 183, 0, 47, 18, 48, 182, 0, 50, 27]
abbrev dktJ11_rangeCheck_0 : List UInt8 := dkwJ11_rangeCheck_0 ++ dktJ11_rangeCheck_1
theorem dksJ11_rangeCheck_0 : cJ11_rangeCheck.data.toList.drop 0 = dktJ11_rangeCheck_0 := by decide +kernel
theorem dksJ11_rangeCheck_1 : cJ11_rangeCheck.data.toList.drop 22 = dktJ11_rangeCheck_1 := dk_seg dksJ11_rangeCheck_0 22 rfl rfl
theorem dksJ11_rangeCheck_2 : cJ11_rangeCheck.data.toList.drop 46 = dktJ11_rangeCheck_2 := dk_seg dksJ11_rangeCheck_1 24 rfl rfl
theorem dksJ11_rangeCheck_3 : cJ11_rangeCheck.data.toList.drop 69 = dktJ11_rangeCheck_3 := dk_seg dksJ11_rangeCheck_2 23 rfl rfl
theorem dJ11_rangeCheck_0 : decode cJ11_rangeCheck 0 = .ok (.iload_n 1, 1) := dk_27 (dk_at dksJ11_rangeCheck_0 0 rfl rfl)
theorem dJ11_rangeCheck_1 : decode cJ11_rangeCheck 1 = .ok (.iload_n 2, 1) := dk_28 (dk_at dksJ11_rangeCheck_0 1 rfl rfl)
theorem dJ11_rangeCheck_2 : decode cJ11_rangeCheck 2 = .ok (.if_icmp .le 44, 3) := dk_164 0 44 (dk_at dksJ11_rangeCheck_0 2 rfl rfl)
theorem dJ11_rangeCheck_5 : decode cJ11_rangeCheck 5 = .ok (.new 43, 3) := dk_187 0 43 (dk_at dksJ11_rangeCheck_0 5 rfl rfl)
theorem dJ11_rangeCheck_8 : decode cJ11_rangeCheck 8 = .ok (.dup, 1) := dk_89 (dk_at dksJ11_rangeCheck_0 8 rfl rfl)
theorem dJ11_rangeCheck_9 : decode cJ11_rangeCheck 9 = .ok (.new 45, 3) := dk_187 0 45 (dk_at dksJ11_rangeCheck_0 9 rfl rfl)
theorem dJ11_rangeCheck_12 : decode cJ11_rangeCheck 12 = .ok (.dup, 1) := dk_89 (dk_at dksJ11_rangeCheck_0 12 rfl rfl)
theorem dJ11_rangeCheck_13 : decode cJ11_rangeCheck 13 = .ok (.invokespecial 47, 3) := dk_183 0 47 (dk_at dksJ11_rangeCheck_0 13 rfl rfl)
theorem dJ11_rangeCheck_16 : decode cJ11_rangeCheck 16 = .ok (.ldc 48, 2) := dk_18 48 (dk_at dksJ11_rangeCheck_0 16 rfl rfl)
theorem dJ11_rangeCheck_18 : decode cJ11_rangeCheck 18 = .ok (.invokevirtual 50, 3) := dk_182 0 50 (dk_at dksJ11_rangeCheck_0 18 rfl rfl)
theorem dJ11_rangeCheck_21 : decode cJ11_rangeCheck 21 = .ok (.iload_n 1, 1) := dk_27 (dk_at dksJ11_rangeCheck_0 21 rfl rfl)
theorem dJ11_rangeCheck_22 : decode cJ11_rangeCheck 22 = .ok (.invokevirtual 54, 3) := dk_182 0 54 (dk_at dksJ11_rangeCheck_1 0 rfl rfl)
theorem dJ11_rangeCheck_25 : decode cJ11_rangeCheck 25 = .ok (.ldc 57, 2) := dk_18 57 (dk_at dksJ11_rangeCheck_1 3 rfl rfl)
theorem dJ11_rangeCheck_27 : decode cJ11_rangeCheck 27 = .ok (.invokevirtual 50, 3) := dk_182 0 50 (dk_at dksJ11_rangeCheck_1 5 rfl rfl)
theorem dJ11_rangeCheck_30 : decode cJ11_rangeCheck 30 = .ok (.iload_n 2, 1) := dk_28 (dk_at dksJ11_rangeCheck_1 8 rfl rfl)
theorem dJ11_rangeCheck_31 : decode cJ11_rangeCheck 31 = .ok (.invokevirtual 54, 3) := dk_182 0 54 (dk_at dksJ11_rangeCheck_1 9 rfl rfl)
theorem dJ11_rangeCheck_34 : decode cJ11_rangeCheck 34 = .ok (.ldc 59, 2) := dk_18 59 (dk_at dksJ11_rangeCheck_1 12 rfl rfl)
theorem dJ11_rangeCheck_36 : decode cJ11_rangeCheck 36 = .ok (.invokevirtual 50, 3) := dk_182 0 50 (dk_at dksJ11_rangeCheck_1 14 rfl rfl)
theorem dJ11_rangeCheck_39 : decode cJ11_rangeCheck 39 = .ok (.invokevirtual 61, 3) := dk_182 0 61 (dk_at dksJ11_rangeCheck_1 17 rfl rfl)
theorem dJ11_rangeCheck_42 : decode cJ11_rangeCheck 42 = .ok (.invokespecial 65, 3) := dk_183 0 65 (dk_at dksJ11_rangeCheck_1 20 rfl rfl)
theorem dJ11_rangeCheck_45 : decode cJ11_rangeCheck 45 = .ok (.athrow, 1) := dk_191 (dk_at dksJ11_rangeCheck_1 23 rfl rfl)
theorem dJ11_rangeCheck_46 : decode cJ11_rangeCheck 46 = .ok (.iload_n 1, 1) := dk_27 (dk_at dksJ11_rangeCheck_2 0 rfl rfl)
theorem dJ11_rangeCheck_47 : decode cJ11_rangeCheck 47 = .ok (.ifCond .ge 12, 3) := dk_156 0 12 (dk_at dksJ11_rangeCheck_2 1 rfl rfl)
theorem dJ11_rangeCheck_50 : decode cJ11_rangeCheck 50 = .ok (.new 68, 3) := dk_187 0 68 (dk_at dksJ11_rangeCheck_2 4 rfl rfl)
theorem dJ11_rangeCheck_53 : decode cJ11_rangeCheck 53 = .ok (.dup, 1) := dk_89 (dk_at dksJ11_rangeCheck_2 7 rfl rfl)
theorem dJ11_rangeCheck_54 : decode cJ11_rangeCheck 54 = .ok (.iload_n 1, 1) := dk_27 (dk_at dksJ11_rangeCheck_2 8 rfl rfl)
theorem dJ11_rangeCheck_55 : decode cJ11_rangeCheck 55 = .ok (.invokespecial 70, 3) := dk_183 0 70 (dk_at dksJ11_rangeCheck_2 9 rfl rfl)
theorem dJ11_rangeCheck_58 : decode cJ11_rangeCheck 58 = .ok (.athrow, 1) := dk_191 (dk_at dksJ11_rangeCheck_2 12 rfl rfl)
theorem dJ11_rangeCheck_59 : decode cJ11_rangeCheck 59 = .ok (.iload_n 2, 1) := dk_28 (dk_at dksJ11_rangeCheck_2 13 rfl rfl)
theorem dJ11_rangeCheck_60 : decode cJ11_rangeCheck 60 = .ok (.iload_n 0, 1) := dk_26 (dk_at dksJ11_rangeCheck_2 14 rfl rfl)
theorem dJ11_rangeCheck_61 : decode cJ11_rangeCheck 61 = .ok (.if_icmp .le 12, 3) := dk_164 0 12 (dk_at dksJ11_rangeCheck_2 15 rfl rfl)
theorem dJ11_rangeCheck_64 : decode cJ11_rangeCheck 64 = .ok (.new 68, 3) := dk_187 0 68 (dk_at dksJ11_rangeCheck_2 18 rfl rfl)
theorem dJ11_rangeCheck_67 : decode cJ11_rangeCheck 67 = .ok (.dup, 1) := dk_89 (dk_at dksJ11_rangeCheck_2 21 rfl rfl)
theorem dJ11_rangeCheck_68 : decode cJ11_rangeCheck 68 = .ok (.iload_n 2, 1) := dk_28 (dk_at dksJ11_rangeCheck_2 22 rfl rfl)
theorem dJ11_rangeCheck_69 : decode cJ11_rangeCheck 69 = .ok (.invokespecial 70, 3) := dk_183 0 70 (dk_at dksJ11_rangeCheck_3 0 rfl rfl)
theorem dJ11_rangeCheck_72 : decode cJ11_rangeCheck 72 = .ok (.athrow, 1) := dk_191 (dk_at dksJ11_rangeCheck_3 3 rfl rfl)
theorem dJ11_rangeCheck_73 : decode cJ11_rangeCheck 73 = .ok (.return_, 1) := dk_177 (dk_at dksJ11_rangeCheck_3 4 rfl rfl)
abbrev cJ11_copyOfRange : ByteArray := prog_43_method_132_code
def yJ11_copyOfRange : MethodName := ⟨RJ11, "copyOfRange", "([BII)[B"⟩
def dkwJ11_copyOfRange_1 : List UInt8 := [176]
abbrev dktJ11_copyOfRange_1 : List UInt8 := dkwJ11_copyOfRange_1 ++ []
def dkwJ11_copyOfRange_0 : List UInt8 := [27, 154, 0, 9, 28, 42, 190, 159, 0, 10, 42, 27, 28, 184, 1, 83, 176, 42, 182, 1, 54, 192, 1, 55]
abbrev dktJ11_copyOfRange_0 : List UInt8 := dkwJ11_copyOfRange_0 ++ dktJ11_copyOfRange_1
theorem dksJ11_copyOfRange_0 : cJ11_copyOfRange.data.toList.drop 0 = dktJ11_copyOfRange_0 := by decide +kernel
theorem dksJ11_copyOfRange_1 : cJ11_copyOfRange.data.toList.drop 24 = dktJ11_copyOfRange_1 := dk_seg dksJ11_copyOfRange_0 24 rfl rfl
theorem dJ11_copyOfRange_0 : decode cJ11_copyOfRange 0 = .ok (.iload_n 1, 1) := dk_27 (dk_at dksJ11_copyOfRange_0 0 rfl rfl)
theorem dJ11_copyOfRange_1 : decode cJ11_copyOfRange 1 = .ok (.ifCond .ne 9, 3) := dk_154 0 9 (dk_at dksJ11_copyOfRange_0 1 rfl rfl)
theorem dJ11_copyOfRange_4 : decode cJ11_copyOfRange 4 = .ok (.iload_n 2, 1) := dk_28 (dk_at dksJ11_copyOfRange_0 4 rfl rfl)
theorem dJ11_copyOfRange_5 : decode cJ11_copyOfRange 5 = .ok (.aload_n 0, 1) := dk_42 (dk_at dksJ11_copyOfRange_0 5 rfl rfl)
theorem dJ11_copyOfRange_6 : decode cJ11_copyOfRange 6 = .ok (.arraylength, 1) := dk_190 (dk_at dksJ11_copyOfRange_0 6 rfl rfl)
theorem dJ11_copyOfRange_7 : decode cJ11_copyOfRange 7 = .ok (.if_icmp .eq 10, 3) := dk_159 0 10 (dk_at dksJ11_copyOfRange_0 7 rfl rfl)
theorem dJ11_copyOfRange_10 : decode cJ11_copyOfRange 10 = .ok (.aload_n 0, 1) := dk_42 (dk_at dksJ11_copyOfRange_0 10 rfl rfl)
theorem dJ11_copyOfRange_11 : decode cJ11_copyOfRange 11 = .ok (.iload_n 1, 1) := dk_27 (dk_at dksJ11_copyOfRange_0 11 rfl rfl)
theorem dJ11_copyOfRange_12 : decode cJ11_copyOfRange 12 = .ok (.iload_n 2, 1) := dk_28 (dk_at dksJ11_copyOfRange_0 12 rfl rfl)
theorem dJ11_copyOfRange_13 : decode cJ11_copyOfRange 13 = .ok (.invokestatic 339, 3) := dk_184 1 83 (dk_at dksJ11_copyOfRange_0 13 rfl rfl)
theorem dJ11_copyOfRange_16 : decode cJ11_copyOfRange 16 = .ok (.areturn, 1) := dk_176 (dk_at dksJ11_copyOfRange_0 16 rfl rfl)
theorem dJ11_copyOfRange_17 : decode cJ11_copyOfRange 17 = .ok (.aload_n 0, 1) := dk_42 (dk_at dksJ11_copyOfRange_0 17 rfl rfl)
theorem dJ11_copyOfRange_18 : decode cJ11_copyOfRange 18 = .ok (.invokevirtual 310, 3) := dk_182 1 54 (dk_at dksJ11_copyOfRange_0 18 rfl rfl)
theorem dJ11_copyOfRange_21 : decode cJ11_copyOfRange 21 = .ok (.checkcast 311, 3) := dk_192 1 55 (dk_at dksJ11_copyOfRange_0 21 rfl rfl)
theorem dJ11_copyOfRange_24 : decode cJ11_copyOfRange 24 = .ok (.areturn, 1) := dk_176 (dk_at dksJ11_copyOfRange_1 0 rfl rfl)
abbrev cJ11_copyOfRangeByte : ByteArray := prog_43_method_133_code
def yJ11_copyOfRangeByte : MethodName := ⟨RJ11, "copyOfRangeByte", "([BII)[B"⟩
def dkwJ11_copyOfRangeByte_1 : List UInt8 := [184, 1, 48, 184, 0, 150, 25, 4, 176]
abbrev dktJ11_copyOfRangeByte_1 : List UInt8 := dkwJ11_copyOfRangeByte_1 ++ []
def dkwJ11_copyOfRangeByte_0 : List UInt8 := [27, 28, 184, 1, 87, 28, 27, 100, 62, 29, 188, 8, 58, 4, 42, 27, 25, 4, 3, 42, 190, 27, 100, 29]
abbrev dktJ11_copyOfRangeByte_0 : List UInt8 := dkwJ11_copyOfRangeByte_0 ++ dktJ11_copyOfRangeByte_1
theorem dksJ11_copyOfRangeByte_0 : cJ11_copyOfRangeByte.data.toList.drop 0 = dktJ11_copyOfRangeByte_0 := by decide +kernel
theorem dksJ11_copyOfRangeByte_1 : cJ11_copyOfRangeByte.data.toList.drop 24 = dktJ11_copyOfRangeByte_1 := dk_seg dksJ11_copyOfRangeByte_0 24 rfl rfl
theorem dJ11_copyOfRangeByte_0 : decode cJ11_copyOfRangeByte 0 = .ok (.iload_n 1, 1) := dk_27 (dk_at dksJ11_copyOfRangeByte_0 0 rfl rfl)
theorem dJ11_copyOfRangeByte_1 : decode cJ11_copyOfRangeByte 1 = .ok (.iload_n 2, 1) := dk_28 (dk_at dksJ11_copyOfRangeByte_0 1 rfl rfl)
theorem dJ11_copyOfRangeByte_2 : decode cJ11_copyOfRangeByte 2 = .ok (.invokestatic 343, 3) := dk_184 1 87 (dk_at dksJ11_copyOfRangeByte_0 2 rfl rfl)
theorem dJ11_copyOfRangeByte_5 : decode cJ11_copyOfRangeByte 5 = .ok (.iload_n 2, 1) := dk_28 (dk_at dksJ11_copyOfRangeByte_0 5 rfl rfl)
theorem dJ11_copyOfRangeByte_6 : decode cJ11_copyOfRangeByte 6 = .ok (.iload_n 1, 1) := dk_27 (dk_at dksJ11_copyOfRangeByte_0 6 rfl rfl)
theorem dJ11_copyOfRangeByte_7 : decode cJ11_copyOfRangeByte 7 = .ok (.isub, 1) := dk_100 (dk_at dksJ11_copyOfRangeByte_0 7 rfl rfl)
theorem dJ11_copyOfRangeByte_8 : decode cJ11_copyOfRangeByte 8 = .ok (.istore_n 3, 1) := dk_62 (dk_at dksJ11_copyOfRangeByte_0 8 rfl rfl)
theorem dJ11_copyOfRangeByte_9 : decode cJ11_copyOfRangeByte 9 = .ok (.iload_n 3, 1) := dk_29 (dk_at dksJ11_copyOfRangeByte_0 9 rfl rfl)
theorem dJ11_copyOfRangeByte_10 : decode cJ11_copyOfRangeByte 10 = .ok (.newarray .byte, 2) := dk_188_8 (dk_at dksJ11_copyOfRangeByte_0 10 rfl rfl)
theorem dJ11_copyOfRangeByte_12 : decode cJ11_copyOfRangeByte 12 = .ok (.astore 4, 2) := dk_58 4 (dk_at dksJ11_copyOfRangeByte_0 12 rfl rfl)
theorem dJ11_copyOfRangeByte_14 : decode cJ11_copyOfRangeByte 14 = .ok (.aload_n 0, 1) := dk_42 (dk_at dksJ11_copyOfRangeByte_0 14 rfl rfl)
theorem dJ11_copyOfRangeByte_15 : decode cJ11_copyOfRangeByte 15 = .ok (.iload_n 1, 1) := dk_27 (dk_at dksJ11_copyOfRangeByte_0 15 rfl rfl)
theorem dJ11_copyOfRangeByte_16 : decode cJ11_copyOfRangeByte 16 = .ok (.aload 4, 2) := dk_25 4 (dk_at dksJ11_copyOfRangeByte_0 16 rfl rfl)
theorem dJ11_copyOfRangeByte_18 : decode cJ11_copyOfRangeByte 18 = .ok (.iconst 0, 1) := dk_3 (dk_at dksJ11_copyOfRangeByte_0 18 rfl rfl)
theorem dJ11_copyOfRangeByte_19 : decode cJ11_copyOfRangeByte 19 = .ok (.aload_n 0, 1) := dk_42 (dk_at dksJ11_copyOfRangeByte_0 19 rfl rfl)
theorem dJ11_copyOfRangeByte_20 : decode cJ11_copyOfRangeByte 20 = .ok (.arraylength, 1) := dk_190 (dk_at dksJ11_copyOfRangeByte_0 20 rfl rfl)
theorem dJ11_copyOfRangeByte_21 : decode cJ11_copyOfRangeByte 21 = .ok (.iload_n 1, 1) := dk_27 (dk_at dksJ11_copyOfRangeByte_0 21 rfl rfl)
theorem dJ11_copyOfRangeByte_22 : decode cJ11_copyOfRangeByte 22 = .ok (.isub, 1) := dk_100 (dk_at dksJ11_copyOfRangeByte_0 22 rfl rfl)
theorem dJ11_copyOfRangeByte_23 : decode cJ11_copyOfRangeByte 23 = .ok (.iload_n 3, 1) := dk_29 (dk_at dksJ11_copyOfRangeByte_0 23 rfl rfl)
theorem dJ11_copyOfRangeByte_24 : decode cJ11_copyOfRangeByte 24 = .ok (.invokestatic 304, 3) := dk_184 1 48 (dk_at dksJ11_copyOfRangeByte_1 0 rfl rfl)
theorem dJ11_copyOfRangeByte_27 : decode cJ11_copyOfRangeByte 27 = .ok (.invokestatic 150, 3) := dk_184 0 150 (dk_at dksJ11_copyOfRangeByte_1 3 rfl rfl)
theorem dJ11_copyOfRangeByte_30 : decode cJ11_copyOfRangeByte 30 = .ok (.aload 4, 2) := dk_25 4 (dk_at dksJ11_copyOfRangeByte_1 6 rfl rfl)
theorem dJ11_copyOfRangeByte_32 : decode cJ11_copyOfRangeByte 32 = .ok (.areturn, 1) := dk_176 (dk_at dksJ11_copyOfRangeByte_1 8 rfl rfl)
abbrev cJ11_checkLength : ByteArray := prog_43_method_131_code
def yJ11_checkLength : MethodName := ⟨RJ11, "checkLength", "(II)V"⟩
def dkwJ11_checkLength_1 : List UInt8 := [182, 0, 50, 27, 182, 0, 54, 182, 0, 61, 183, 0, 65, 191, 177]
abbrev dktJ11_checkLength_1 : List UInt8 := dkwJ11_checkLength_1 ++ []
def dkwJ11_checkLength_0 : List UInt8 := [27, 26, 162, 0, 35, 187, 0, 43, 89, 187, 0, 45, 89, 183, 0, 47, 26, 182, 0, 54, 19, 1, 81]
abbrev dktJ11_checkLength_0 : List UInt8 := dkwJ11_checkLength_0 ++ dktJ11_checkLength_1
theorem dksJ11_checkLength_0 : cJ11_checkLength.data.toList.drop 0 = dktJ11_checkLength_0 := by decide +kernel
theorem dksJ11_checkLength_1 : cJ11_checkLength.data.toList.drop 23 = dktJ11_checkLength_1 := dk_seg dksJ11_checkLength_0 23 rfl rfl
theorem dJ11_checkLength_0 : decode cJ11_checkLength 0 = .ok (.iload_n 1, 1) := dk_27 (dk_at dksJ11_checkLength_0 0 rfl rfl)
theorem dJ11_checkLength_1 : decode cJ11_checkLength 1 = .ok (.iload_n 0, 1) := dk_26 (dk_at dksJ11_checkLength_0 1 rfl rfl)
theorem dJ11_checkLength_2 : decode cJ11_checkLength 2 = .ok (.if_icmp .ge 35, 3) := dk_162 0 35 (dk_at dksJ11_checkLength_0 2 rfl rfl)
theorem dJ11_checkLength_5 : decode cJ11_checkLength 5 = .ok (.new 43, 3) := dk_187 0 43 (dk_at dksJ11_checkLength_0 5 rfl rfl)
theorem dJ11_checkLength_8 : decode cJ11_checkLength 8 = .ok (.dup, 1) := dk_89 (dk_at dksJ11_checkLength_0 8 rfl rfl)
theorem dJ11_checkLength_9 : decode cJ11_checkLength 9 = .ok (.new 45, 3) := dk_187 0 45 (dk_at dksJ11_checkLength_0 9 rfl rfl)
theorem dJ11_checkLength_12 : decode cJ11_checkLength 12 = .ok (.dup, 1) := dk_89 (dk_at dksJ11_checkLength_0 12 rfl rfl)
theorem dJ11_checkLength_13 : decode cJ11_checkLength 13 = .ok (.invokespecial 47, 3) := dk_183 0 47 (dk_at dksJ11_checkLength_0 13 rfl rfl)
theorem dJ11_checkLength_16 : decode cJ11_checkLength 16 = .ok (.iload_n 0, 1) := dk_26 (dk_at dksJ11_checkLength_0 16 rfl rfl)
theorem dJ11_checkLength_17 : decode cJ11_checkLength 17 = .ok (.invokevirtual 54, 3) := dk_182 0 54 (dk_at dksJ11_checkLength_0 17 rfl rfl)
theorem dJ11_checkLength_20 : decode cJ11_checkLength 20 = .ok (.ldc_w 337, 3) := dk_19 1 81 (dk_at dksJ11_checkLength_0 20 rfl rfl)
theorem dJ11_checkLength_23 : decode cJ11_checkLength 23 = .ok (.invokevirtual 50, 3) := dk_182 0 50 (dk_at dksJ11_checkLength_1 0 rfl rfl)
theorem dJ11_checkLength_26 : decode cJ11_checkLength 26 = .ok (.iload_n 1, 1) := dk_27 (dk_at dksJ11_checkLength_1 3 rfl rfl)
theorem dJ11_checkLength_27 : decode cJ11_checkLength 27 = .ok (.invokevirtual 54, 3) := dk_182 0 54 (dk_at dksJ11_checkLength_1 4 rfl rfl)
theorem dJ11_checkLength_30 : decode cJ11_checkLength 30 = .ok (.invokevirtual 61, 3) := dk_182 0 61 (dk_at dksJ11_checkLength_1 7 rfl rfl)
theorem dJ11_checkLength_33 : decode cJ11_checkLength 33 = .ok (.invokespecial 65, 3) := dk_183 0 65 (dk_at dksJ11_checkLength_1 10 rfl rfl)
theorem dJ11_checkLength_36 : decode cJ11_checkLength 36 = .ok (.athrow, 1) := dk_191 (dk_at dksJ11_checkLength_1 13 rfl rfl)
theorem dJ11_checkLength_37 : decode cJ11_checkLength 37 = .ok (.return_, 1) := dk_177 (dk_at dksJ11_checkLength_1 14 rfl rfl)
theorem q103 : (Jvm.Cond.initialized "java/util/Arrays") ∈ lw_all := lw_g (lw_at lw_m1 16 rfl) rfl
theorem q451 : (Jvm.Cond.static ({ cls := "java/util/Arrays", name := "copyOf", desc := "([Ljava/lang/Object;I)[Ljava/lang/Object;" } : Jvm.MethodName)) ∈ lw_all := lw_g (lw_at lw_m2 124 rfl) rfl
theorem q452 : (Jvm.Cond.code ({ cls := "java/util/Arrays", name := "copyOf", desc := "([Ljava/lang/Object;I)[Ljava/lang/Object;" } : Jvm.MethodName) prog_43_method_119_code (2 : Nat) (Option.some (Jvm.ClassFile.FieldType.array (Jvm.ClassFile.FieldType.object "java/lang/Object")))) ∈ lw_all := lw_g (lw_at lw_m2 125 rfl) rfl
theorem q453 : (Jvm.Cond.methodLink "java/util/Arrays" (86 : Nat) ({ cls := "java/lang/Object", name := "getClass", desc := "()Ljava/lang/Class;" } : Jvm.MethodName)) ∈ lw_all := lw_g (lw_at lw_m2 126 rfl) rfl
theorem q487 : (Jvm.Cond.methodLink "java/util/Arrays" (300 : Nat) ({ cls := "java/util/Arrays", name := "copyOf", desc := "([Ljava/lang/Object;ILjava/lang/Class;)[Ljava/lang/Object;" } : Jvm.MethodName)) ∈ lw_all := lw_g (lw_at lw_m2 160 rfl) rfl
theorem q488 : (Jvm.Cond.static ({ cls := "java/util/Arrays", name := "copyOf", desc := "([Ljava/lang/Object;ILjava/lang/Class;)[Ljava/lang/Object;" } : Jvm.MethodName)) ∈ lw_all := lw_g (lw_at lw_m2 161 rfl) rfl
theorem q489 : (Jvm.Cond.code ({ cls := "java/util/Arrays", name := "copyOf", desc := "([Ljava/lang/Object;ILjava/lang/Class;)[Ljava/lang/Object;" } : Jvm.MethodName) prog_43_method_120_code (4 : Nat) (Option.some (Jvm.ClassFile.FieldType.array (Jvm.ClassFile.FieldType.object "java/lang/Object")))) ∈ lw_all := lw_g (lw_at lw_m2 162 rfl) rfl
theorem q490 : (Jvm.Cond.classLink "java/util/Arrays" (110 : Nat) "[Ljava/lang/Object;") ∈ lw_all := lw_g (lw_at lw_m2 163 rfl) rfl
theorem q491 : (Jvm.Cond.classLink "java/util/Arrays" (2 : Nat) "java/lang/Object") ∈ lw_all := lw_g (lw_at lw_m2 164 rfl) rfl
theorem q492 : (Jvm.Cond.methodLink "java/util/Arrays" (304 : Nat) ({ cls := "java/lang/Math", name := "min", desc := "(II)I" } : Jvm.MethodName)) ∈ lw_all := lw_g (lw_at lw_m2 165 rfl) rfl
theorem q495 : (Jvm.Cond.methodLink "java/util/Arrays" (150 : Nat) ({ cls := "java/lang/System", name := "arraycopy", desc := "(Ljava/lang/Object;ILjava/lang/Object;II)V" } : Jvm.MethodName)) ∈ lw_all := lw_g (lw_at lw_m2 168 rfl) rfl
theorem q1556 : (Jvm.Cond.static ({ cls := "java/util/Arrays", name := "copyOf", desc := "([JI)[J" } : Jvm.MethodName)) ∈ lw_all := lw_g (lw_at lw_m7 29 rfl) rfl
theorem q1557 : (Jvm.Cond.code ({ cls := "java/util/Arrays", name := "copyOf", desc := "([JI)[J" } : Jvm.MethodName) prog_43_method_124_code (3 : Nat) (Option.some (Jvm.ClassFile.FieldType.array Jvm.ClassFile.FieldType.long))) ∈ lw_all := lw_g (lw_at lw_m7 30 rfl) rfl
theorem q1558 : (Jvm.Cond.methodLink "java/util/Arrays" (319 : Nat) ({ cls := "[J", name := "clone", desc := "()Ljava/lang/Object;" } : Jvm.MethodName)) ∈ lw_all := lw_g (lw_at lw_m7 31 rfl) rfl
theorem q1564 : (Jvm.Cond.classLink "java/util/Arrays" (320 : Nat) "[J") ∈ lw_all := lw_g (lw_at lw_m7 37 rfl) rfl
theorem q1996 : (Jvm.Cond.static ({ cls := "java/util/Arrays", name := "copyOf", desc := "([BI)[B" } : Jvm.MethodName)) ∈ lw_all := lw_g (lw_at lw_m8 229 rfl) rfl
theorem q1997 : (Jvm.Cond.code ({ cls := "java/util/Arrays", name := "copyOf", desc := "([BI)[B" } : Jvm.MethodName) prog_43_method_121_code (3 : Nat) (Option.some (Jvm.ClassFile.FieldType.array Jvm.ClassFile.FieldType.byte))) ∈ lw_all := lw_g (lw_at lw_m8 230 rfl) rfl
theorem q1998 : (Jvm.Cond.methodLink "java/util/Arrays" (310 : Nat) ({ cls := "[B", name := "clone", desc := "()Ljava/lang/Object;" } : Jvm.MethodName)) ∈ lw_all := lw_g (lw_at lw_m8 231 rfl) rfl
theorem q2002 : (Jvm.Cond.classLink "java/util/Arrays" (311 : Nat) "[B") ∈ lw_all := lw_g (lw_at lw_m8 235 rfl) rfl
theorem q2223 : (Jvm.Cond.static ({ cls := "java/util/Arrays", name := "fill", desc := "([BIIB)V" } : Jvm.MethodName)) ∈ lw_all := lw_g (lw_at lw_m9 216 rfl) rfl
theorem q2224 : (Jvm.Cond.code ({ cls := "java/util/Arrays", name := "fill", desc := "([BIIB)V" } : Jvm.MethodName) prog_43_method_110_code (5 : Nat) (Option.none : Option Jvm.ClassFile.FieldType)) ∈ lw_all := lw_g (lw_at lw_m9 217 rfl) rfl
theorem q2225 : (Jvm.Cond.methodLink "java/util/Arrays" (13 : Nat) ({ cls := "java/util/Arrays", name := "rangeCheck", desc := "(III)V" } : Jvm.MethodName)) ∈ lw_all := lw_g (lw_at lw_m9 218 rfl) rfl
theorem q2226 : (Jvm.Cond.static ({ cls := "java/util/Arrays", name := "rangeCheck", desc := "(III)V" } : Jvm.MethodName)) ∈ lw_all := lw_g (lw_at lw_m9 219 rfl) rfl
theorem q2227 : (Jvm.Cond.code ({ cls := "java/util/Arrays", name := "rangeCheck", desc := "(III)V" } : Jvm.MethodName) prog_43_method_30_code (3 : Nat) (Option.none : Option Jvm.ClassFile.FieldType)) ∈ lw_all := lw_g (lw_at lw_m9 220 rfl) rfl
theorem q2328 : (Jvm.Cond.static ({ cls := "java/util/Arrays", name := "copyOfRange", desc := "([BII)[B" } : Jvm.MethodName)) ∈ lw_all := lw_g (lw_at lw_m10 81 rfl) rfl
theorem q2329 : (Jvm.Cond.code ({ cls := "java/util/Arrays", name := "copyOfRange", desc := "([BII)[B" } : Jvm.MethodName) prog_43_method_132_code (3 : Nat) (Option.some (Jvm.ClassFile.FieldType.array Jvm.ClassFile.FieldType.byte))) ∈ lw_all := lw_g (lw_at lw_m10 82 rfl) rfl
theorem q2330 : (Jvm.Cond.methodLink "java/util/Arrays" (339 : Nat) ({ cls := "java/util/Arrays", name := "copyOfRangeByte", desc := "([BII)[B" } : Jvm.MethodName)) ∈ lw_all := lw_g (lw_at lw_m10 83 rfl) rfl
theorem q2331 : (Jvm.Cond.static ({ cls := "java/util/Arrays", name := "copyOfRangeByte", desc := "([BII)[B" } : Jvm.MethodName)) ∈ lw_all := lw_g (lw_at lw_m10 84 rfl) rfl
theorem q2332 : (Jvm.Cond.code ({ cls := "java/util/Arrays", name := "copyOfRangeByte", desc := "([BII)[B" } : Jvm.MethodName) prog_43_method_133_code (5 : Nat) (Option.some (Jvm.ClassFile.FieldType.array Jvm.ClassFile.FieldType.byte))) ∈ lw_all := lw_g (lw_at lw_m10 85 rfl) rfl
theorem q2333 : (Jvm.Cond.methodLink "java/util/Arrays" (343 : Nat) ({ cls := "java/util/Arrays", name := "checkLength", desc := "(II)V" } : Jvm.MethodName)) ∈ lw_all := lw_g (lw_at lw_m10 86 rfl) rfl
theorem q2334 : (Jvm.Cond.static ({ cls := "java/util/Arrays", name := "checkLength", desc := "(II)V" } : Jvm.MethodName)) ∈ lw_all := lw_g (lw_at lw_m10 87 rfl) rfl
theorem q2335 : (Jvm.Cond.code ({ cls := "java/util/Arrays", name := "checkLength", desc := "(II)V" } : Jvm.MethodName) prog_43_method_131_code (2 : Nat) (Option.none : Option Jvm.ClassFile.FieldType)) ∈ lw_all := lw_g (lw_at lw_m10 88 rfl) rfl
/-! java/lang/Throwable -/
set_option maxRecDepth 100000
def RJ12 : String := "java/lang/Throwable"
def TJ12 : u_T := fun k => match k with
  | 0 => ("java/lang/Throwable", "cause", "Ljava/lang/Throwable;", false)
  | 1 => ("java/lang/Throwable", "stackTrace", "[Ljava/lang/StackTraceElement;", false)
  | 2 => ("java/lang/Throwable", "suppressedExceptions", "Ljava/util/List;", false)
  | 3 => ("java/lang/Throwable", "detailMessage", "Ljava/lang/String;", false)
  | _ => ("java/lang/Throwable", "backtrace", "Ljava/lang/Object;", false)
def tyJ12 : Nat → FieldType := fun k => match k with
  | 0 => .object "java/lang/Throwable"
  | 1 => .array (.object "java/lang/StackTraceElement")
  | 2 => .object "java/util/List"
  | 3 => .object "java/lang/String"
  | _ => .object "java/lang/Object"
abbrev wsJ120 : List Cond := u_ws RJ12 TJ12 5
theorem nmJ12 : ∀ a, a < 5 → ∀ b, b < 5 → a ≠ b → (TJ12 a).2.1 ≠ (TJ12 b).2.1 := by decide +kernel
theorem tyJ12_ok : ∀ k, k < 5 → parseFieldDescriptor (TJ12 k).2.2.1 = some (tyJ12 k) := by decide +kernel
abbrev cJ12_init : ByteArray := prog_32_method_1_code
def yJ12_init : MethodName := ⟨RJ12, "<init>", "()V"⟩
def dkwJ12_init_1 : List UInt8 := [182, 0, 27, 87, 177]
abbrev dktJ12_init_1 : List UInt8 := dkwJ12_init_1 ++ []
def dkwJ12_init_0 : List UInt8 := [42, 183, 0, 1, 42, 42, 181, 0, 7, 42, 178, 0, 13, 181, 0, 17, 42, 178, 0, 20, 181, 0, 24, 42]
abbrev dktJ12_init_0 : List UInt8 := dkwJ12_init_0 ++ dktJ12_init_1
theorem dksJ12_init_0 : cJ12_init.data.toList.drop 0 = dktJ12_init_0 := by decide +kernel
theorem dksJ12_init_1 : cJ12_init.data.toList.drop 24 = dktJ12_init_1 := dk_seg dksJ12_init_0 24 rfl rfl
theorem dJ12_init_0 : decode cJ12_init 0 = .ok (.aload_n 0, 1) := dk_42 (dk_at dksJ12_init_0 0 rfl rfl)
theorem dJ12_init_1 : decode cJ12_init 1 = .ok (.invokespecial 1, 3) := dk_183 0 1 (dk_at dksJ12_init_0 1 rfl rfl)
theorem dJ12_init_4 : decode cJ12_init 4 = .ok (.aload_n 0, 1) := dk_42 (dk_at dksJ12_init_0 4 rfl rfl)
theorem dJ12_init_5 : decode cJ12_init 5 = .ok (.aload_n 0, 1) := dk_42 (dk_at dksJ12_init_0 5 rfl rfl)
theorem dJ12_init_6 : decode cJ12_init 6 = .ok (.putfield 7, 3) := dk_181 0 7 (dk_at dksJ12_init_0 6 rfl rfl)
theorem dJ12_init_9 : decode cJ12_init 9 = .ok (.aload_n 0, 1) := dk_42 (dk_at dksJ12_init_0 9 rfl rfl)
theorem dJ12_init_10 : decode cJ12_init 10 = .ok (.getstatic 13, 3) := dk_178 0 13 (dk_at dksJ12_init_0 10 rfl rfl)
theorem dJ12_init_13 : decode cJ12_init 13 = .ok (.putfield 17, 3) := dk_181 0 17 (dk_at dksJ12_init_0 13 rfl rfl)
theorem dJ12_init_16 : decode cJ12_init 16 = .ok (.aload_n 0, 1) := dk_42 (dk_at dksJ12_init_0 16 rfl rfl)
theorem dJ12_init_17 : decode cJ12_init 17 = .ok (.getstatic 20, 3) := dk_178 0 20 (dk_at dksJ12_init_0 17 rfl rfl)
theorem dJ12_init_20 : decode cJ12_init 20 = .ok (.putfield 24, 3) := dk_181 0 24 (dk_at dksJ12_init_0 20 rfl rfl)
theorem dJ12_init_23 : decode cJ12_init 23 = .ok (.aload_n 0, 1) := dk_42 (dk_at dksJ12_init_0 23 rfl rfl)
theorem dJ12_init_24 : decode cJ12_init 24 = .ok (.invokevirtual 27, 3) := dk_182 0 27 (dk_at dksJ12_init_1 0 rfl rfl)
theorem dJ12_init_27 : decode cJ12_init 27 = .ok (.pop, 1) := dk_87 (dk_at dksJ12_init_1 3 rfl rfl)
theorem dJ12_init_28 : decode cJ12_init 28 = .ok (.return_, 1) := dk_177 (dk_at dksJ12_init_1 4 rfl rfl)
abbrev cJ12_init_2 : ByteArray := prog_32_method_5_code
def yJ12_init_2 : MethodName := ⟨RJ12, "<init>", "(Ljava/lang/String;Ljava/lang/Throwable;ZZ)V"⟩
def dkwJ12_init_2_2 : List UInt8 := [44, 181, 0, 7, 29, 154, 0, 8, 42, 1, 181, 0, 24, 177]
abbrev dktJ12_init_2_2 : List UInt8 := dkwJ12_init_2_2 ++ []
def dkwJ12_init_2_1 : List UInt8 := [21, 4, 153, 0, 11, 42, 182, 0, 27, 87, 167, 0, 8, 42, 1, 181, 0, 17, 42, 43, 181, 0, 31, 42]
abbrev dktJ12_init_2_1 : List UInt8 := dkwJ12_init_2_1 ++ dktJ12_init_2_2
def dkwJ12_init_2_0 : List UInt8 := [42, 183, 0, 1, 42, 42, 181, 0, 7, 42, 178, 0, 13, 181, 0, 17, 42, 178, 0, 20, 181, 0, 24]
abbrev dktJ12_init_2_0 : List UInt8 := dkwJ12_init_2_0 ++ dktJ12_init_2_1
theorem dksJ12_init_2_0 : cJ12_init_2.data.toList.drop 0 = dktJ12_init_2_0 := by decide +kernel
theorem dksJ12_init_2_1 : cJ12_init_2.data.toList.drop 23 = dktJ12_init_2_1 := dk_seg dksJ12_init_2_0 23 rfl rfl
theorem dksJ12_init_2_2 : cJ12_init_2.data.toList.drop 47 = dktJ12_init_2_2 := dk_seg dksJ12_init_2_1 24 rfl rfl
theorem dJ12_init_2_0 : decode cJ12_init_2 0 = .ok (.aload_n 0, 1) := dk_42 (dk_at dksJ12_init_2_0 0 rfl rfl)
theorem dJ12_init_2_1 : decode cJ12_init_2 1 = .ok (.invokespecial 1, 3) := dk_183 0 1 (dk_at dksJ12_init_2_0 1 rfl rfl)
theorem dJ12_init_2_4 : decode cJ12_init_2 4 = .ok (.aload_n 0, 1) := dk_42 (dk_at dksJ12_init_2_0 4 rfl rfl)
theorem dJ12_init_2_5 : decode cJ12_init_2 5 = .ok (.aload_n 0, 1) := dk_42 (dk_at dksJ12_init_2_0 5 rfl rfl)
theorem dJ12_init_2_6 : decode cJ12_init_2 6 = .ok (.putfield 7, 3) := dk_181 0 7 (dk_at dksJ12_init_2_0 6 rfl rfl)
theorem dJ12_init_2_9 : decode cJ12_init_2 9 = .ok (.aload_n 0, 1) := dk_42 (dk_at dksJ12_init_2_0 9 rfl rfl)
theorem dJ12_init_2_10 : decode cJ12_init_2 10 = .ok (.getstatic 13, 3) := dk_178 0 13 (dk_at dksJ12_init_2_0 10 rfl rfl)
theorem dJ12_init_2_13 : decode cJ12_init_2 13 = .ok (.putfield 17, 3) := dk_181 0 17 (dk_at dksJ12_init_2_0 13 rfl rfl)
theorem dJ12_init_2_16 : decode cJ12_init_2 16 = .ok (.aload_n 0, 1) := dk_42 (dk_at dksJ12_init_2_0 16 rfl rfl)
theorem dJ12_init_2_17 : decode cJ12_init_2 17 = .ok (.getstatic 20, 3) := dk_178 0 20 (dk_at dksJ12_init_2_0 17 rfl rfl)
theorem dJ12_init_2_20 : decode cJ12_init_2 20 = .ok (.putfield 24, 3) := dk_181 0 24 (dk_at dksJ12_init_2_0 20 rfl rfl)
theorem dJ12_init_2_23 : decode cJ12_init_2 23 = .ok (.iload 4, 2) := dk_21 4 (dk_at dksJ12_init_2_1 0 rfl rfl)
theorem dJ12_init_2_25 : decode cJ12_init_2 25 = .ok (.ifCond .eq 11, 3) := dk_153 0 11 (dk_at dksJ12_init_2_1 2 rfl rfl)
theorem dJ12_init_2_28 : decode cJ12_init_2 28 = .ok (.aload_n 0, 1) := dk_42 (dk_at dksJ12_init_2_1 5 rfl rfl)
theorem dJ12_init_2_29 : decode cJ12_init_2 29 = .ok (.invokevirtual 27, 3) := dk_182 0 27 (dk_at dksJ12_init_2_1 6 rfl rfl)
theorem dJ12_init_2_32 : decode cJ12_init_2 32 = .ok (.pop, 1) := dk_87 (dk_at dksJ12_init_2_1 9 rfl rfl)
theorem dJ12_init_2_33 : decode cJ12_init_2 33 = .ok (.goto 8, 3) := dk_167 0 8 (dk_at dksJ12_init_2_1 10 rfl rfl)
theorem dJ12_init_2_36 : decode cJ12_init_2 36 = .ok (.aload_n 0, 1) := dk_42 (dk_at dksJ12_init_2_1 13 rfl rfl)
theorem dJ12_init_2_37 : decode cJ12_init_2 37 = .ok (.aconst_null, 1) := dk_1 (dk_at dksJ12_init_2_1 14 rfl rfl)
theorem dJ12_init_2_38 : decode cJ12_init_2 38 = .ok (.putfield 17, 3) := dk_181 0 17 (dk_at dksJ12_init_2_1 15 rfl rfl)
theorem dJ12_init_2_41 : decode cJ12_init_2 41 = .ok (.aload_n 0, 1) := dk_42 (dk_at dksJ12_init_2_1 18 rfl rfl)
theorem dJ12_init_2_42 : decode cJ12_init_2 42 = .ok (.aload_n 1, 1) := dk_43 (dk_at dksJ12_init_2_1 19 rfl rfl)
theorem dJ12_init_2_43 : decode cJ12_init_2 43 = .ok (.putfield 31, 3) := dk_181 0 31 (dk_at dksJ12_init_2_1 20 rfl rfl)
theorem dJ12_init_2_46 : decode cJ12_init_2 46 = .ok (.aload_n 0, 1) := dk_42 (dk_at dksJ12_init_2_1 23 rfl rfl)
theorem dJ12_init_2_47 : decode cJ12_init_2 47 = .ok (.aload_n 2, 1) := dk_44 (dk_at dksJ12_init_2_2 0 rfl rfl)
theorem dJ12_init_2_48 : decode cJ12_init_2 48 = .ok (.putfield 7, 3) := dk_181 0 7 (dk_at dksJ12_init_2_2 1 rfl rfl)
theorem dJ12_init_2_51 : decode cJ12_init_2 51 = .ok (.iload_n 3, 1) := dk_29 (dk_at dksJ12_init_2_2 4 rfl rfl)
theorem dJ12_init_2_52 : decode cJ12_init_2 52 = .ok (.ifCond .ne 8, 3) := dk_154 0 8 (dk_at dksJ12_init_2_2 5 rfl rfl)
theorem dJ12_init_2_55 : decode cJ12_init_2 55 = .ok (.aload_n 0, 1) := dk_42 (dk_at dksJ12_init_2_2 8 rfl rfl)
theorem dJ12_init_2_56 : decode cJ12_init_2 56 = .ok (.aconst_null, 1) := dk_1 (dk_at dksJ12_init_2_2 9 rfl rfl)
theorem dJ12_init_2_57 : decode cJ12_init_2 57 = .ok (.putfield 24, 3) := dk_181 0 24 (dk_at dksJ12_init_2_2 10 rfl rfl)
theorem dJ12_init_2_60 : decode cJ12_init_2 60 = .ok (.return_, 1) := dk_177 (dk_at dksJ12_init_2_2 13 rfl rfl)
theorem q105 : (Jvm.Cond.initialized "java/lang/Throwable") ∈ lw_all := lw_g (lw_at lw_m1 18 rfl) rfl
theorem q519 : (Jvm.Cond.declares ({ cls := "java/lang/Throwable", name := "<init>", desc := "()V" } : Jvm.MethodName)) ∈ lw_tbl := lw_at lw_m2 192 rfl
theorem q520 : (Jvm.Cond.declares ({ cls := "java/lang/Throwable", name := "<init>", desc := "(Ljava/lang/String;)V" } : Jvm.MethodName)) ∈ lw_tbl := lw_at lw_m2 193 rfl
theorem q524 : (Jvm.Cond.lays "java/lang/Throwable" "java/lang/Throwable" "cause" "Ljava/lang/Throwable;") ∈ lw_all := lw_g (lw_at lw_m2 197 rfl) rfl
theorem q526 : (Jvm.Cond.lays "java/lang/Throwable" "java/lang/Throwable" "stackTrace" "[Ljava/lang/StackTraceElement;") ∈ lw_all := lw_g (lw_at lw_m2 199 rfl) rfl
theorem q528 : (Jvm.Cond.lays "java/lang/Throwable" "java/lang/Throwable" "suppressedExceptions" "Ljava/util/List;") ∈ lw_all := lw_g (lw_at lw_m2 201 rfl) rfl
theorem q530 : (Jvm.Cond.lays "java/lang/Throwable" "java/lang/Throwable" "detailMessage" "Ljava/lang/String;") ∈ lw_all := lw_g (lw_at lw_m2 203 rfl) rfl
theorem q532 : (Jvm.Cond.lays "java/lang/Throwable" "java/lang/Throwable" "backtrace" "Ljava/lang/Object;") ∈ lw_all := lw_g (lw_at lw_m2 205 rfl) rfl
theorem q533 : (Jvm.Cond.fieldLink "java/lang/Throwable" (198 : Nat) "java/lang/Throwable" "backtrace" "Ljava/lang/Object;") ∈ lw_all := lw_g (lw_at lw_m2 206 rfl) rfl
theorem q534 : (Jvm.Cond.superclass "java/lang/Throwable" "java/lang/Object") ∈ lw_all := lw_g (lw_at lw_m2 207 rfl) rfl
theorem q535 : (Jvm.Cond.instanceMethod ({ cls := "java/lang/Throwable", name := "<init>", desc := "()V" } : Jvm.MethodName)) ∈ lw_all := lw_g (lw_at lw_m2 208 rfl) rfl
theorem q536 : (Jvm.Cond.code ({ cls := "java/lang/Throwable", name := "<init>", desc := "()V" } : Jvm.MethodName) prog_32_method_1_code (1 : Nat) (Option.none : Option Jvm.ClassFile.FieldType)) ∈ lw_all := lw_g (lw_at lw_m2 209 rfl) rfl
theorem q537 : (Jvm.Cond.methodLink "java/lang/Throwable" (1 : Nat) ({ cls := "java/lang/Object", name := "<init>", desc := "()V" } : Jvm.MethodName)) ∈ lw_all := lw_g (lw_at lw_m2 210 rfl) rfl
theorem q538 : (Jvm.Cond.fieldLink "java/lang/Throwable" (13 : Nat) "java/lang/Throwable" "UNASSIGNED_STACK" "[Ljava/lang/StackTraceElement;") ∈ lw_all := lw_g (lw_at lw_m2 211 rfl) rfl
theorem q539 : (Jvm.Cond.laysStatic "java/lang/Throwable" "UNASSIGNED_STACK" "[Ljava/lang/StackTraceElement;") ∈ lw_tbl := lw_at lw_m2 212 rfl
theorem q540 : (Jvm.Cond.fieldLink "java/lang/Throwable" (20 : Nat) "java/lang/Throwable" "SUPPRESSED_SENTINEL" "Ljava/util/List;") ∈ lw_all := lw_g (lw_at lw_m2 213 rfl) rfl
theorem q541 : (Jvm.Cond.laysStatic "java/lang/Throwable" "SUPPRESSED_SENTINEL" "Ljava/util/List;") ∈ lw_tbl := lw_at lw_m2 214 rfl
theorem q542 : (Jvm.Cond.methodLink "java/lang/Throwable" (27 : Nat) ({ cls := "java/lang/Throwable", name := "fillInStackTrace", desc := "()Ljava/lang/Throwable;" } : Jvm.MethodName)) ∈ lw_all := lw_g (lw_at lw_m2 215 rfl) rfl
theorem q543 : (Jvm.Cond.instanceMethod ({ cls := "java/lang/Throwable", name := "fillInStackTrace", desc := "()Ljava/lang/Throwable;" } : Jvm.MethodName)) ∈ lw_all := lw_g (lw_at lw_m2 216 rfl) rfl
theorem q544 : (Jvm.Cond.sameMethod "java/lang/Throwable" "java/lang/Throwable" "fillInStackTrace" "()Ljava/lang/Throwable;") ∈ lw_all := lw_g (lw_at lw_m2 217 rfl) rfl
theorem q546 : (Jvm.Cond.codeSync ({ cls := "java/lang/Throwable", name := "fillInStackTrace", desc := "()Ljava/lang/Throwable;" } : Jvm.MethodName) prog_32_method_18_code (1 : Nat) (Option.some (Jvm.ClassFile.FieldType.object "java/lang/Throwable"))) ∈ lw_all := lw_g (lw_at lw_m2 219 rfl) rfl
theorem q547 : (Jvm.Cond.methodLink "java/lang/Throwable" (202 : Nat) ({ cls := "java/lang/Throwable", name := "fillInStackTrace", desc := "(I)Ljava/lang/Throwable;" } : Jvm.MethodName)) ∈ lw_all := lw_g (lw_at lw_m2 220 rfl) rfl
theorem q548 : (Jvm.Cond.privateMethod ({ cls := "java/lang/Throwable", name := "fillInStackTrace", desc := "(I)Ljava/lang/Throwable;" } : Jvm.MethodName)) ∈ lw_tbl := lw_at lw_m2 221 rfl
theorem q549 : (Jvm.Cond.instanceMethod ({ cls := "java/lang/Throwable", name := "fillInStackTrace", desc := "(I)Ljava/lang/Throwable;" } : Jvm.MethodName)) ∈ lw_all := lw_g (lw_at lw_m2 222 rfl) rfl
theorem q550 : (Jvm.Cond.instantiable "java/lang/Throwable" (6 : Nat)) ∈ lw_all := lw_g (lw_at lw_m2 223 rfl) rfl
theorem q551 : (Jvm.Cond.native ({ cls := "java/lang/Throwable", name := "fillInStackTrace", desc := "(I)Ljava/lang/Throwable;" } : Jvm.MethodName)) ∈ lw_all := lw_g (lw_at lw_m2 224 rfl) rfl
theorem q559 : (Jvm.Cond.instanceMethod ({ cls := "java/lang/Throwable", name := "<init>", desc := "(Ljava/lang/String;Ljava/lang/Throwable;ZZ)V" } : Jvm.MethodName)) ∈ lw_all := lw_g (lw_at lw_m2 232 rfl) rfl
theorem q560 : (Jvm.Cond.code ({ cls := "java/lang/Throwable", name := "<init>", desc := "(Ljava/lang/String;Ljava/lang/Throwable;ZZ)V" } : Jvm.MethodName) prog_32_method_5_code (5 : Nat) (Option.none : Option Jvm.ClassFile.FieldType)) ∈ lw_all := lw_g (lw_at lw_m2 233 rfl) rfl
theorem q565 : (Jvm.Cond.fieldLink "java/lang/Throwable" (198 : Nat) "java/lang/Throwable" "backtrace" "Ljava/lang/Object;") ∈ lw_all := lw_g (lw_at lw_m2 238 rfl) rfl
theorem q566 : (Jvm.Cond.fieldLink "java/lang/Throwable" (31 : Nat) "java/lang/Throwable" "detailMessage" "Ljava/lang/String;") ∈ lw_all := lw_g (lw_at lw_m2 239 rfl) rfl
theorem q567 : (Jvm.Cond.fieldLink "java/lang/Throwable" (7 : Nat) "java/lang/Throwable" "cause" "Ljava/lang/Throwable;") ∈ lw_all := lw_g (lw_at lw_m3 0 rfl) rfl
theorem q568 : (Jvm.Cond.fieldLink "java/lang/Throwable" (17 : Nat) "java/lang/Throwable" "stackTrace" "[Ljava/lang/StackTraceElement;") ∈ lw_all := lw_g (lw_at lw_m3 1 rfl) rfl
theorem q569 : (Jvm.Cond.fieldLink "java/lang/Throwable" (24 : Nat) "java/lang/Throwable" "suppressedExceptions" "Ljava/util/List;") ∈ lw_all := lw_g (lw_at lw_m3 2 rfl) rfl
theorem q574 : (Jvm.Cond.soleField "java/lang/Throwable" "backtrace") ∈ lw_all := lw_g (lw_at lw_m3 7 rfl) rfl
theorem q575 : (Jvm.Cond.soleField "java/lang/Throwable" "detailMessage") ∈ lw_all := lw_g (lw_at lw_m3 8 rfl) rfl
theorem q576 : (Jvm.Cond.soleField "java/lang/Throwable" "cause") ∈ lw_all := lw_g (lw_at lw_m3 9 rfl) rfl
theorem q577 : (Jvm.Cond.soleField "java/lang/Throwable" "stackTrace") ∈ lw_all := lw_g (lw_at lw_m3 10 rfl) rfl
theorem q579 : (Jvm.Cond.soleField "java/lang/Throwable" "depth") ∈ lw_all := lw_g (lw_at lw_m3 12 rfl) rfl
theorem q580 : (Jvm.Cond.soleField "java/lang/Throwable" "suppressedExceptions") ∈ lw_all := lw_g (lw_at lw_m3 13 rfl) rfl
theorem q2861 : (Jvm.Cond.sameMethod "java/lang/Throwable" "java/lang/Throwable" "fillInStackTrace" "(I)Ljava/lang/Throwable;") ∈ lw_all := lw_g (lw_at lw_m12 134 rfl) rfl
theorem q2915 : (Jvm.Cond.castable "java/lang/Throwable" "java/lang/Object") ∈ lw_tbl := lw_at lw_m12 188 rfl
theorem in_J12 : ∀ w ∈ wsJ120, w ∈ lw_all := lw_in wsJ120 [524, 526, 528, 530, 532] (by decide +kernel) (by decide +kernel)
/-! java/lang/Exception -/
set_option maxRecDepth 100000
def RJ13 : String := "java/lang/Exception"
abbrev cJ13_init : ByteArray := prog_18_method_5_code
def yJ13_init : MethodName := ⟨RJ13, "<init>", "(Ljava/lang/String;Ljava/lang/Throwable;ZZ)V"⟩
def dkwJ13_init_0 : List UInt8 := [42, 43, 44, 29, 21, 4, 183, 0, 16, 177]
abbrev dktJ13_init_0 : List UInt8 := dkwJ13_init_0 ++ []
theorem dksJ13_init_0 : cJ13_init.data.toList.drop 0 = dktJ13_init_0 := by decide +kernel
theorem dJ13_init_0 : decode cJ13_init 0 = .ok (.aload_n 0, 1) := dk_42 (dk_at dksJ13_init_0 0 rfl rfl)
theorem dJ13_init_1 : decode cJ13_init 1 = .ok (.aload_n 1, 1) := dk_43 (dk_at dksJ13_init_0 1 rfl rfl)
theorem dJ13_init_2 : decode cJ13_init 2 = .ok (.aload_n 2, 1) := dk_44 (dk_at dksJ13_init_0 2 rfl rfl)
theorem dJ13_init_3 : decode cJ13_init 3 = .ok (.iload_n 3, 1) := dk_29 (dk_at dksJ13_init_0 3 rfl rfl)
theorem dJ13_init_4 : decode cJ13_init 4 = .ok (.iload 4, 2) := dk_21 4 (dk_at dksJ13_init_0 4 rfl rfl)
theorem dJ13_init_6 : decode cJ13_init 6 = .ok (.invokespecial 16, 3) := dk_183 0 16 (dk_at dksJ13_init_0 6 rfl rfl)
theorem dJ13_init_9 : decode cJ13_init 9 = .ok (.return_, 1) := dk_177 (dk_at dksJ13_init_0 9 rfl rfl)
theorem q106 : (Jvm.Cond.initialized "java/lang/Exception") ∈ lw_all := lw_g (lw_at lw_m1 19 rfl) rfl
theorem q517 : (Jvm.Cond.declares ({ cls := "java/lang/Exception", name := "<init>", desc := "()V" } : Jvm.MethodName)) ∈ lw_tbl := lw_at lw_m2 190 rfl
theorem q518 : (Jvm.Cond.declares ({ cls := "java/lang/Exception", name := "<init>", desc := "(Ljava/lang/String;)V" } : Jvm.MethodName)) ∈ lw_tbl := lw_at lw_m2 191 rfl
theorem q556 : (Jvm.Cond.instanceMethod ({ cls := "java/lang/Exception", name := "<init>", desc := "(Ljava/lang/String;Ljava/lang/Throwable;ZZ)V" } : Jvm.MethodName)) ∈ lw_all := lw_g (lw_at lw_m2 229 rfl) rfl
theorem q557 : (Jvm.Cond.code ({ cls := "java/lang/Exception", name := "<init>", desc := "(Ljava/lang/String;Ljava/lang/Throwable;ZZ)V" } : Jvm.MethodName) prog_18_method_5_code (5 : Nat) (Option.none : Option Jvm.ClassFile.FieldType)) ∈ lw_all := lw_g (lw_at lw_m2 230 rfl) rfl
theorem q558 : (Jvm.Cond.methodLink "java/lang/Exception" (16 : Nat) ({ cls := "java/lang/Throwable", name := "<init>", desc := "(Ljava/lang/String;Ljava/lang/Throwable;ZZ)V" } : Jvm.MethodName)) ∈ lw_all := lw_g (lw_at lw_m2 231 rfl) rfl
/-! java/util/Objects -/
set_option maxRecDepth 100000
def RJ14 : String := "java/util/Objects"
abbrev cJ14_checkIndex : ByteArray := prog_66_method_17_code
def yJ14_checkIndex : MethodName := ⟨RJ14, "checkIndex", "(II)I"⟩
def dkwJ14_checkIndex_0 : List UInt8 := [26, 27, 1, 184, 0, 105, 172]
abbrev dktJ14_checkIndex_0 : List UInt8 := dkwJ14_checkIndex_0 ++ []
theorem dksJ14_checkIndex_0 : cJ14_checkIndex.data.toList.drop 0 = dktJ14_checkIndex_0 := by decide +kernel
theorem dJ14_checkIndex_0 : decode cJ14_checkIndex 0 = .ok (.iload_n 0, 1) := dk_26 (dk_at dksJ14_checkIndex_0 0 rfl rfl)
theorem dJ14_checkIndex_1 : decode cJ14_checkIndex 1 = .ok (.iload_n 1, 1) := dk_27 (dk_at dksJ14_checkIndex_0 1 rfl rfl)
theorem dJ14_checkIndex_2 : decode cJ14_checkIndex 2 = .ok (.aconst_null, 1) := dk_1 (dk_at dksJ14_checkIndex_0 2 rfl rfl)
theorem dJ14_checkIndex_3 : decode cJ14_checkIndex 3 = .ok (.invokestatic 105, 3) := dk_184 0 105 (dk_at dksJ14_checkIndex_0 3 rfl rfl)
theorem dJ14_checkIndex_6 : decode cJ14_checkIndex 6 = .ok (.ireturn, 1) := dk_172 (dk_at dksJ14_checkIndex_0 6 rfl rfl)
theorem q108 : (Jvm.Cond.initialized "java/util/Objects") ∈ lw_all := lw_g (lw_at lw_m1 21 rfl) rfl
theorem q665 : (Jvm.Cond.static ({ cls := "java/util/Objects", name := "checkIndex", desc := "(II)I" } : Jvm.MethodName)) ∈ lw_all := lw_g (lw_at lw_m3 98 rfl) rfl
theorem q666 : (Jvm.Cond.code ({ cls := "java/util/Objects", name := "checkIndex", desc := "(II)I" } : Jvm.MethodName) prog_66_method_17_code (2 : Nat) (Option.some Jvm.ClassFile.FieldType.int)) ∈ lw_all := lw_g (lw_at lw_m3 99 rfl) rfl
theorem q667 : (Jvm.Cond.methodLink "java/util/Objects" (105 : Nat) ({ cls := "jdk/internal/util/Preconditions", name := "checkIndex", desc := "(IILjava/util/function/BiFunction;)I" } : Jvm.MethodName)) ∈ lw_all := lw_g (lw_at lw_m3 100 rfl) rfl
/-! jdk/internal/util/Preconditions -/
set_option maxRecDepth 100000
def RJ15 : String := "jdk/internal/util/Preconditions"
abbrev cJ15_checkIndex : ByteArray := prog_77_method_11_code
def yJ15_checkIndex : MethodName := ⟨RJ15, "checkIndex", "(IILjava/util/function/BiFunction;)I"⟩
def dkwJ15_checkIndex_0 : List UInt8 := [26, 155, 0, 8, 26, 27, 161, 0, 10, 44, 26, 27, 184, 0, 95, 191, 26, 172]
abbrev dktJ15_checkIndex_0 : List UInt8 := dkwJ15_checkIndex_0 ++ []
theorem dksJ15_checkIndex_0 : cJ15_checkIndex.data.toList.drop 0 = dktJ15_checkIndex_0 := by decide +kernel
theorem dJ15_checkIndex_0 : decode cJ15_checkIndex 0 = .ok (.iload_n 0, 1) := dk_26 (dk_at dksJ15_checkIndex_0 0 rfl rfl)
theorem dJ15_checkIndex_1 : decode cJ15_checkIndex 1 = .ok (.ifCond .lt 8, 3) := dk_155 0 8 (dk_at dksJ15_checkIndex_0 1 rfl rfl)
theorem dJ15_checkIndex_4 : decode cJ15_checkIndex 4 = .ok (.iload_n 0, 1) := dk_26 (dk_at dksJ15_checkIndex_0 4 rfl rfl)
theorem dJ15_checkIndex_5 : decode cJ15_checkIndex 5 = .ok (.iload_n 1, 1) := dk_27 (dk_at dksJ15_checkIndex_0 5 rfl rfl)
theorem dJ15_checkIndex_6 : decode cJ15_checkIndex 6 = .ok (.if_icmp .lt 10, 3) := dk_161 0 10 (dk_at dksJ15_checkIndex_0 6 rfl rfl)
theorem dJ15_checkIndex_9 : decode cJ15_checkIndex 9 = .ok (.aload_n 2, 1) := dk_44 (dk_at dksJ15_checkIndex_0 9 rfl rfl)
theorem dJ15_checkIndex_10 : decode cJ15_checkIndex 10 = .ok (.iload_n 0, 1) := dk_26 (dk_at dksJ15_checkIndex_0 10 rfl rfl)
theorem dJ15_checkIndex_11 : decode cJ15_checkIndex 11 = .ok (.iload_n 1, 1) := dk_27 (dk_at dksJ15_checkIndex_0 11 rfl rfl)
theorem dJ15_checkIndex_12 : decode cJ15_checkIndex 12 = .ok (.invokestatic 95, 3) := dk_184 0 95 (dk_at dksJ15_checkIndex_0 12 rfl rfl)
theorem dJ15_checkIndex_15 : decode cJ15_checkIndex 15 = .ok (.athrow, 1) := dk_191 (dk_at dksJ15_checkIndex_0 15 rfl rfl)
theorem dJ15_checkIndex_16 : decode cJ15_checkIndex 16 = .ok (.iload_n 0, 1) := dk_26 (dk_at dksJ15_checkIndex_0 16 rfl rfl)
theorem dJ15_checkIndex_17 : decode cJ15_checkIndex 17 = .ok (.ireturn, 1) := dk_172 (dk_at dksJ15_checkIndex_0 17 rfl rfl)
abbrev cJ15_checkFromToIndex : ByteArray := prog_77_method_12_code
def yJ15_checkFromToIndex : MethodName := ⟨RJ15, "checkFromToIndex", "(IIILjava/util/function/BiFunction;)I"⟩
def dkwJ15_checkFromToIndex_0 : List UInt8 := [26, 155, 0, 13, 26, 27, 163, 0, 8, 27, 28, 164, 0, 11, 45, 26, 27, 28, 184, 0, 99, 191, 26, 172]
abbrev dktJ15_checkFromToIndex_0 : List UInt8 := dkwJ15_checkFromToIndex_0 ++ []
theorem dksJ15_checkFromToIndex_0 : cJ15_checkFromToIndex.data.toList.drop 0 = dktJ15_checkFromToIndex_0 := by decide +kernel
theorem dJ15_checkFromToIndex_0 : decode cJ15_checkFromToIndex 0 = .ok (.iload_n 0, 1) := dk_26 (dk_at dksJ15_checkFromToIndex_0 0 rfl rfl)
theorem dJ15_checkFromToIndex_1 : decode cJ15_checkFromToIndex 1 = .ok (.ifCond .lt 13, 3) := dk_155 0 13 (dk_at dksJ15_checkFromToIndex_0 1 rfl rfl)
theorem dJ15_checkFromToIndex_4 : decode cJ15_checkFromToIndex 4 = .ok (.iload_n 0, 1) := dk_26 (dk_at dksJ15_checkFromToIndex_0 4 rfl rfl)
theorem dJ15_checkFromToIndex_5 : decode cJ15_checkFromToIndex 5 = .ok (.iload_n 1, 1) := dk_27 (dk_at dksJ15_checkFromToIndex_0 5 rfl rfl)
theorem dJ15_checkFromToIndex_6 : decode cJ15_checkFromToIndex 6 = .ok (.if_icmp .gt 8, 3) := dk_163 0 8 (dk_at dksJ15_checkFromToIndex_0 6 rfl rfl)
theorem dJ15_checkFromToIndex_9 : decode cJ15_checkFromToIndex 9 = .ok (.iload_n 1, 1) := dk_27 (dk_at dksJ15_checkFromToIndex_0 9 rfl rfl)
theorem dJ15_checkFromToIndex_10 : decode cJ15_checkFromToIndex 10 = .ok (.iload_n 2, 1) := dk_28 (dk_at dksJ15_checkFromToIndex_0 10 rfl rfl)
theorem dJ15_checkFromToIndex_11 : decode cJ15_checkFromToIndex 11 = .ok (.if_icmp .le 11, 3) := dk_164 0 11 (dk_at dksJ15_checkFromToIndex_0 11 rfl rfl)
theorem dJ15_checkFromToIndex_14 : decode cJ15_checkFromToIndex 14 = .ok (.aload_n 3, 1) := dk_45 (dk_at dksJ15_checkFromToIndex_0 14 rfl rfl)
theorem dJ15_checkFromToIndex_15 : decode cJ15_checkFromToIndex 15 = .ok (.iload_n 0, 1) := dk_26 (dk_at dksJ15_checkFromToIndex_0 15 rfl rfl)
theorem dJ15_checkFromToIndex_16 : decode cJ15_checkFromToIndex 16 = .ok (.iload_n 1, 1) := dk_27 (dk_at dksJ15_checkFromToIndex_0 16 rfl rfl)
theorem dJ15_checkFromToIndex_17 : decode cJ15_checkFromToIndex 17 = .ok (.iload_n 2, 1) := dk_28 (dk_at dksJ15_checkFromToIndex_0 17 rfl rfl)
theorem dJ15_checkFromToIndex_18 : decode cJ15_checkFromToIndex 18 = .ok (.invokestatic 99, 3) := dk_184 0 99 (dk_at dksJ15_checkFromToIndex_0 18 rfl rfl)
theorem dJ15_checkFromToIndex_21 : decode cJ15_checkFromToIndex 21 = .ok (.athrow, 1) := dk_191 (dk_at dksJ15_checkFromToIndex_0 21 rfl rfl)
theorem dJ15_checkFromToIndex_22 : decode cJ15_checkFromToIndex 22 = .ok (.iload_n 0, 1) := dk_26 (dk_at dksJ15_checkFromToIndex_0 22 rfl rfl)
theorem dJ15_checkFromToIndex_23 : decode cJ15_checkFromToIndex 23 = .ok (.ireturn, 1) := dk_172 (dk_at dksJ15_checkFromToIndex_0 23 rfl rfl)
abbrev cJ15_checkFromIndexSize : ByteArray := prog_77_method_13_code
def yJ15_checkFromIndexSize : MethodName := ⟨RJ15, "checkFromIndexSize", "(IIILjava/util/function/BiFunction;)I"⟩
def dkwJ15_checkFromIndexSize_1 : List UInt8 := [172]
abbrev dktJ15_checkFromIndexSize_1 : List UInt8 := dkwJ15_checkFromIndexSize_1 ++ []
def dkwJ15_checkFromIndexSize_0 : List UInt8 := [28, 26, 128, 27, 128, 155, 0, 10, 27, 28, 26, 100, 164, 0, 11, 45, 26, 27, 28, 184, 0, 103, 191, 26]
abbrev dktJ15_checkFromIndexSize_0 : List UInt8 := dkwJ15_checkFromIndexSize_0 ++ dktJ15_checkFromIndexSize_1
theorem dksJ15_checkFromIndexSize_0 : cJ15_checkFromIndexSize.data.toList.drop 0 = dktJ15_checkFromIndexSize_0 := by decide +kernel
theorem dksJ15_checkFromIndexSize_1 : cJ15_checkFromIndexSize.data.toList.drop 24 = dktJ15_checkFromIndexSize_1 := dk_seg dksJ15_checkFromIndexSize_0 24 rfl rfl
theorem dJ15_checkFromIndexSize_0 : decode cJ15_checkFromIndexSize 0 = .ok (.iload_n 2, 1) := dk_28 (dk_at dksJ15_checkFromIndexSize_0 0 rfl rfl)
theorem dJ15_checkFromIndexSize_1 : decode cJ15_checkFromIndexSize 1 = .ok (.iload_n 0, 1) := dk_26 (dk_at dksJ15_checkFromIndexSize_0 1 rfl rfl)
theorem dJ15_checkFromIndexSize_2 : decode cJ15_checkFromIndexSize 2 = .ok (.ior, 1) := dk_128 (dk_at dksJ15_checkFromIndexSize_0 2 rfl rfl)
theorem dJ15_checkFromIndexSize_3 : decode cJ15_checkFromIndexSize 3 = .ok (.iload_n 1, 1) := dk_27 (dk_at dksJ15_checkFromIndexSize_0 3 rfl rfl)
theorem dJ15_checkFromIndexSize_4 : decode cJ15_checkFromIndexSize 4 = .ok (.ior, 1) := dk_128 (dk_at dksJ15_checkFromIndexSize_0 4 rfl rfl)
theorem dJ15_checkFromIndexSize_5 : decode cJ15_checkFromIndexSize 5 = .ok (.ifCond .lt 10, 3) := dk_155 0 10 (dk_at dksJ15_checkFromIndexSize_0 5 rfl rfl)
theorem dJ15_checkFromIndexSize_8 : decode cJ15_checkFromIndexSize 8 = .ok (.iload_n 1, 1) := dk_27 (dk_at dksJ15_checkFromIndexSize_0 8 rfl rfl)
theorem dJ15_checkFromIndexSize_9 : decode cJ15_checkFromIndexSize 9 = .ok (.iload_n 2, 1) := dk_28 (dk_at dksJ15_checkFromIndexSize_0 9 rfl rfl)
theorem dJ15_checkFromIndexSize_10 : decode cJ15_checkFromIndexSize 10 = .ok (.iload_n 0, 1) := dk_26 (dk_at dksJ15_checkFromIndexSize_0 10 rfl rfl)
theorem dJ15_checkFromIndexSize_11 : decode cJ15_checkFromIndexSize 11 = .ok (.isub, 1) := dk_100 (dk_at dksJ15_checkFromIndexSize_0 11 rfl rfl)
theorem dJ15_checkFromIndexSize_12 : decode cJ15_checkFromIndexSize 12 = .ok (.if_icmp .le 11, 3) := dk_164 0 11 (dk_at dksJ15_checkFromIndexSize_0 12 rfl rfl)
theorem dJ15_checkFromIndexSize_15 : decode cJ15_checkFromIndexSize 15 = .ok (.aload_n 3, 1) := dk_45 (dk_at dksJ15_checkFromIndexSize_0 15 rfl rfl)
theorem dJ15_checkFromIndexSize_16 : decode cJ15_checkFromIndexSize 16 = .ok (.iload_n 0, 1) := dk_26 (dk_at dksJ15_checkFromIndexSize_0 16 rfl rfl)
theorem dJ15_checkFromIndexSize_17 : decode cJ15_checkFromIndexSize 17 = .ok (.iload_n 1, 1) := dk_27 (dk_at dksJ15_checkFromIndexSize_0 17 rfl rfl)
theorem dJ15_checkFromIndexSize_18 : decode cJ15_checkFromIndexSize 18 = .ok (.iload_n 2, 1) := dk_28 (dk_at dksJ15_checkFromIndexSize_0 18 rfl rfl)
theorem dJ15_checkFromIndexSize_19 : decode cJ15_checkFromIndexSize 19 = .ok (.invokestatic 103, 3) := dk_184 0 103 (dk_at dksJ15_checkFromIndexSize_0 19 rfl rfl)
theorem dJ15_checkFromIndexSize_22 : decode cJ15_checkFromIndexSize 22 = .ok (.athrow, 1) := dk_191 (dk_at dksJ15_checkFromIndexSize_0 22 rfl rfl)
theorem dJ15_checkFromIndexSize_23 : decode cJ15_checkFromIndexSize 23 = .ok (.iload_n 0, 1) := dk_26 (dk_at dksJ15_checkFromIndexSize_0 23 rfl rfl)
theorem dJ15_checkFromIndexSize_24 : decode cJ15_checkFromIndexSize 24 = .ok (.ireturn, 1) := dk_172 (dk_at dksJ15_checkFromIndexSize_1 0 rfl rfl)
theorem q109 : (Jvm.Cond.initialized "jdk/internal/util/Preconditions") ∈ lw_all := lw_g (lw_at lw_m1 22 rfl) rfl
theorem q668 : (Jvm.Cond.static ({ cls := "jdk/internal/util/Preconditions", name := "checkIndex", desc := "(IILjava/util/function/BiFunction;)I" } : Jvm.MethodName)) ∈ lw_all := lw_g (lw_at lw_m3 101 rfl) rfl
theorem q669 : (Jvm.Cond.code ({ cls := "jdk/internal/util/Preconditions", name := "checkIndex", desc := "(IILjava/util/function/BiFunction;)I" } : Jvm.MethodName) prog_77_method_11_code (3 : Nat) (Option.some Jvm.ClassFile.FieldType.int)) ∈ lw_all := lw_g (lw_at lw_m3 102 rfl) rfl
theorem q1366 : (Jvm.Cond.laysStatic "jdk/internal/util/Preconditions" "SIOOBE_FORMATTER" "Ljava/util/function/BiFunction;") ∈ lw_tbl := lw_at lw_m6 79 rfl
theorem q1368 : (Jvm.Cond.static ({ cls := "jdk/internal/util/Preconditions", name := "checkFromToIndex", desc := "(IIILjava/util/function/BiFunction;)I" } : Jvm.MethodName)) ∈ lw_all := lw_g (lw_at lw_m6 81 rfl) rfl
theorem q1369 : (Jvm.Cond.code ({ cls := "jdk/internal/util/Preconditions", name := "checkFromToIndex", desc := "(IIILjava/util/function/BiFunction;)I" } : Jvm.MethodName) prog_77_method_12_code (4 : Nat) (Option.some Jvm.ClassFile.FieldType.int)) ∈ lw_all := lw_g (lw_at lw_m6 82 rfl) rfl
theorem q2023 : (Jvm.Cond.static ({ cls := "jdk/internal/util/Preconditions", name := "checkFromIndexSize", desc := "(IIILjava/util/function/BiFunction;)I" } : Jvm.MethodName)) ∈ lw_all := lw_g (lw_at lw_m9 16 rfl) rfl
theorem q2024 : (Jvm.Cond.code ({ cls := "jdk/internal/util/Preconditions", name := "checkFromIndexSize", desc := "(IIILjava/util/function/BiFunction;)I" } : Jvm.MethodName) prog_77_method_13_code (4 : Nat) (Option.some Jvm.ClassFile.FieldType.int)) ∈ lw_all := lw_g (lw_at lw_m9 17 rfl) rfl
/-! java/util/BitSet -/
set_option maxRecDepth 100000
def RJ16 : String := "java/util/BitSet"
def TJ16 : u_T := fun k => match k with
  | 0 => ("java/util/BitSet", "words", "[J", false)
  | 1 => ("java/util/BitSet", "wordsInUse", "I", false)
  | _ => ("java/util/BitSet", "sizeIsSticky", "Z", false)
def tyJ16 : Nat → FieldType := fun k => match k with
  | 0 => .array .long
  | 1 => .int
  | _ => .boolean
abbrev wsJ160 : List Cond := u_ws RJ16 TJ16 3
theorem nmJ16 : ∀ a, a < 3 → ∀ b, b < 3 → a ≠ b → (TJ16 a).2.1 ≠ (TJ16 b).2.1 := by decide +kernel
theorem tyJ16_ok : ∀ k, k < 3 → parseFieldDescriptor (TJ16 k).2.2.1 = some (tyJ16 k) := by decide +kernel
abbrev cJ16_init : ByteArray := prog_44_method_4_code
def yJ16_init : MethodName := ⟨RJ16, "<init>", "()V"⟩
def dkwJ16_init_1 : List UInt8 := [181, 0, 24, 177]
abbrev dktJ16_init_1 : List UInt8 := dkwJ16_init_1 ++ []
def dkwJ16_init_0 : List UInt8 := [42, 183, 0, 21, 42, 3, 181, 0, 7, 42, 3, 181, 0, 24, 42, 16, 64, 182, 0, 27, 42, 3]
abbrev dktJ16_init_0 : List UInt8 := dkwJ16_init_0 ++ dktJ16_init_1
theorem dksJ16_init_0 : cJ16_init.data.toList.drop 0 = dktJ16_init_0 := by decide +kernel
theorem dksJ16_init_1 : cJ16_init.data.toList.drop 22 = dktJ16_init_1 := dk_seg dksJ16_init_0 22 rfl rfl
theorem dJ16_init_0 : decode cJ16_init 0 = .ok (.aload_n 0, 1) := dk_42 (dk_at dksJ16_init_0 0 rfl rfl)
theorem dJ16_init_1 : decode cJ16_init 1 = .ok (.invokespecial 21, 3) := dk_183 0 21 (dk_at dksJ16_init_0 1 rfl rfl)
theorem dJ16_init_4 : decode cJ16_init 4 = .ok (.aload_n 0, 1) := dk_42 (dk_at dksJ16_init_0 4 rfl rfl)
theorem dJ16_init_5 : decode cJ16_init 5 = .ok (.iconst 0, 1) := dk_3 (dk_at dksJ16_init_0 5 rfl rfl)
theorem dJ16_init_6 : decode cJ16_init 6 = .ok (.putfield 7, 3) := dk_181 0 7 (dk_at dksJ16_init_0 6 rfl rfl)
theorem dJ16_init_9 : decode cJ16_init 9 = .ok (.aload_n 0, 1) := dk_42 (dk_at dksJ16_init_0 9 rfl rfl)
theorem dJ16_init_10 : decode cJ16_init 10 = .ok (.iconst 0, 1) := dk_3 (dk_at dksJ16_init_0 10 rfl rfl)
theorem dJ16_init_11 : decode cJ16_init 11 = .ok (.putfield 24, 3) := dk_181 0 24 (dk_at dksJ16_init_0 11 rfl rfl)
theorem dJ16_init_14 : decode cJ16_init 14 = .ok (.aload_n 0, 1) := dk_42 (dk_at dksJ16_init_0 14 rfl rfl)
theorem dJ16_init_15 : decode cJ16_init 15 = .ok (.bipush 64, 2) := dk_16 64 (dk_at dksJ16_init_0 15 rfl rfl)
theorem dJ16_init_17 : decode cJ16_init 17 = .ok (.invokevirtual 27, 3) := dk_182 0 27 (dk_at dksJ16_init_0 17 rfl rfl)
theorem dJ16_init_20 : decode cJ16_init 20 = .ok (.aload_n 0, 1) := dk_42 (dk_at dksJ16_init_0 20 rfl rfl)
theorem dJ16_init_21 : decode cJ16_init 21 = .ok (.iconst 0, 1) := dk_3 (dk_at dksJ16_init_0 21 rfl rfl)
theorem dJ16_init_22 : decode cJ16_init 22 = .ok (.putfield 24, 3) := dk_181 0 24 (dk_at dksJ16_init_1 0 rfl rfl)
theorem dJ16_init_25 : decode cJ16_init 25 = .ok (.return_, 1) := dk_177 (dk_at dksJ16_init_1 3 rfl rfl)
abbrev cJ16_initWords : ByteArray := prog_44_method_6_code
def yJ16_initWords : MethodName := ⟨RJ16, "initWords", "(I)V"⟩
def dkwJ16_initWords_0 : List UInt8 := [42, 27, 4, 100, 184, 0, 52, 4, 96, 188, 11, 181, 0, 11, 177]
abbrev dktJ16_initWords_0 : List UInt8 := dkwJ16_initWords_0 ++ []
theorem dksJ16_initWords_0 : cJ16_initWords.data.toList.drop 0 = dktJ16_initWords_0 := by decide +kernel
theorem dJ16_initWords_0 : decode cJ16_initWords 0 = .ok (.aload_n 0, 1) := dk_42 (dk_at dksJ16_initWords_0 0 rfl rfl)
theorem dJ16_initWords_1 : decode cJ16_initWords 1 = .ok (.iload_n 1, 1) := dk_27 (dk_at dksJ16_initWords_0 1 rfl rfl)
theorem dJ16_initWords_2 : decode cJ16_initWords 2 = .ok (.iconst 1, 1) := dk_4 (dk_at dksJ16_initWords_0 2 rfl rfl)
theorem dJ16_initWords_3 : decode cJ16_initWords 3 = .ok (.isub, 1) := dk_100 (dk_at dksJ16_initWords_0 3 rfl rfl)
theorem dJ16_initWords_4 : decode cJ16_initWords 4 = .ok (.invokestatic 52, 3) := dk_184 0 52 (dk_at dksJ16_initWords_0 4 rfl rfl)
theorem dJ16_initWords_7 : decode cJ16_initWords 7 = .ok (.iconst 1, 1) := dk_4 (dk_at dksJ16_initWords_0 7 rfl rfl)
theorem dJ16_initWords_8 : decode cJ16_initWords 8 = .ok (.iadd, 1) := dk_96 (dk_at dksJ16_initWords_0 8 rfl rfl)
theorem dJ16_initWords_9 : decode cJ16_initWords 9 = .ok (.newarray .long, 2) := dk_188_11 (dk_at dksJ16_initWords_0 9 rfl rfl)
theorem dJ16_initWords_11 : decode cJ16_initWords 11 = .ok (.putfield 11, 3) := dk_181 0 11 (dk_at dksJ16_initWords_0 11 rfl rfl)
theorem dJ16_initWords_14 : decode cJ16_initWords 14 = .ok (.return_, 1) := dk_177 (dk_at dksJ16_initWords_0 14 rfl rfl)
abbrev cJ16_wordIndex : ByteArray := prog_44_method_1_code
def yJ16_wordIndex : MethodName := ⟨RJ16, "wordIndex", "(I)I"⟩
def dkwJ16_wordIndex_0 : List UInt8 := [26, 16, 6, 122, 172]
abbrev dktJ16_wordIndex_0 : List UInt8 := dkwJ16_wordIndex_0 ++ []
theorem dksJ16_wordIndex_0 : cJ16_wordIndex.data.toList.drop 0 = dktJ16_wordIndex_0 := by decide +kernel
theorem dJ16_wordIndex_0 : decode cJ16_wordIndex 0 = .ok (.iload_n 0, 1) := dk_26 (dk_at dksJ16_wordIndex_0 0 rfl rfl)
theorem dJ16_wordIndex_1 : decode cJ16_wordIndex 1 = .ok (.bipush 6, 2) := dk_16 6 (dk_at dksJ16_wordIndex_0 1 rfl rfl)
theorem dJ16_wordIndex_3 : decode cJ16_wordIndex 3 = .ok (.ishr, 1) := dk_122 (dk_at dksJ16_wordIndex_0 3 rfl rfl)
theorem dJ16_wordIndex_4 : decode cJ16_wordIndex 4 = .ok (.ireturn, 1) := dk_172 (dk_at dksJ16_wordIndex_0 4 rfl rfl)
abbrev cJ16_set : ByteArray := prog_44_method_19_code
def yJ16_set : MethodName := ⟨RJ16, "set", "(I)V"⟩
def dkwJ16_set_2 : List UInt8 := [10, 27, 121, 129, 80, 42, 182, 0, 56, 177]
abbrev dktJ16_set_2 : List UInt8 := dkwJ16_set_2 ++ []
def dkwJ16_set_1 : List UInt8 := [182, 0, 45, 183, 0, 146, 191, 27, 184, 0, 52, 61, 42, 28, 182, 0, 155, 42, 180, 0, 11, 28, 92, 47]
abbrev dktJ16_set_1 : List UInt8 := dkwJ16_set_1 ++ dktJ16_set_2
def dkwJ16_set_0 : List UInt8 := [27, 156, 0, 30, 187, 0, 142, 89, 187, 0, 33, 89, 183, 0, 35, 18, 153, 182, 0, 38, 27, 182, 0, 42]
abbrev dktJ16_set_0 : List UInt8 := dkwJ16_set_0 ++ dktJ16_set_1
theorem dksJ16_set_0 : cJ16_set.data.toList.drop 0 = dktJ16_set_0 := by decide +kernel
theorem dksJ16_set_1 : cJ16_set.data.toList.drop 24 = dktJ16_set_1 := dk_seg dksJ16_set_0 24 rfl rfl
theorem dksJ16_set_2 : cJ16_set.data.toList.drop 48 = dktJ16_set_2 := dk_seg dksJ16_set_1 24 rfl rfl
theorem dJ16_set_0 : decode cJ16_set 0 = .ok (.iload_n 1, 1) := dk_27 (dk_at dksJ16_set_0 0 rfl rfl)
theorem dJ16_set_1 : decode cJ16_set 1 = .ok (.ifCond .ge 30, 3) := dk_156 0 30 (dk_at dksJ16_set_0 1 rfl rfl)
theorem dJ16_set_4 : decode cJ16_set 4 = .ok (.new 142, 3) := dk_187 0 142 (dk_at dksJ16_set_0 4 rfl rfl)
theorem dJ16_set_7 : decode cJ16_set 7 = .ok (.dup, 1) := dk_89 (dk_at dksJ16_set_0 7 rfl rfl)
theorem dJ16_set_8 : decode cJ16_set 8 = .ok (.new 33, 3) := dk_187 0 33 (dk_at dksJ16_set_0 8 rfl rfl)
theorem dJ16_set_11 : decode cJ16_set 11 = .ok (.dup, 1) := dk_89 (dk_at dksJ16_set_0 11 rfl rfl)
theorem dJ16_set_12 : decode cJ16_set 12 = .ok (.invokespecial 35, 3) := dk_183 0 35 (dk_at dksJ16_set_0 12 rfl rfl)
theorem dJ16_set_15 : decode cJ16_set 15 = .ok (.ldc 153, 2) := dk_18 153 (dk_at dksJ16_set_0 15 rfl rfl)
theorem dJ16_set_17 : decode cJ16_set 17 = .ok (.invokevirtual 38, 3) := dk_182 0 38 (dk_at dksJ16_set_0 17 rfl rfl)
theorem dJ16_set_20 : decode cJ16_set 20 = .ok (.iload_n 1, 1) := dk_27 (dk_at dksJ16_set_0 20 rfl rfl)
theorem dJ16_set_21 : decode cJ16_set 21 = .ok (.invokevirtual 42, 3) := dk_182 0 42 (dk_at dksJ16_set_0 21 rfl rfl)
theorem dJ16_set_24 : decode cJ16_set 24 = .ok (.invokevirtual 45, 3) := dk_182 0 45 (dk_at dksJ16_set_1 0 rfl rfl)
theorem dJ16_set_27 : decode cJ16_set 27 = .ok (.invokespecial 146, 3) := dk_183 0 146 (dk_at dksJ16_set_1 3 rfl rfl)
theorem dJ16_set_30 : decode cJ16_set 30 = .ok (.athrow, 1) := dk_191 (dk_at dksJ16_set_1 6 rfl rfl)
theorem dJ16_set_31 : decode cJ16_set 31 = .ok (.iload_n 1, 1) := dk_27 (dk_at dksJ16_set_1 7 rfl rfl)
theorem dJ16_set_32 : decode cJ16_set 32 = .ok (.invokestatic 52, 3) := dk_184 0 52 (dk_at dksJ16_set_1 8 rfl rfl)
theorem dJ16_set_35 : decode cJ16_set 35 = .ok (.istore_n 2, 1) := dk_61 (dk_at dksJ16_set_1 11 rfl rfl)
theorem dJ16_set_36 : decode cJ16_set 36 = .ok (.aload_n 0, 1) := dk_42 (dk_at dksJ16_set_1 12 rfl rfl)
theorem dJ16_set_37 : decode cJ16_set 37 = .ok (.iload_n 2, 1) := dk_28 (dk_at dksJ16_set_1 13 rfl rfl)
theorem dJ16_set_38 : decode cJ16_set 38 = .ok (.invokevirtual 155, 3) := dk_182 0 155 (dk_at dksJ16_set_1 14 rfl rfl)
theorem dJ16_set_41 : decode cJ16_set 41 = .ok (.aload_n 0, 1) := dk_42 (dk_at dksJ16_set_1 17 rfl rfl)
theorem dJ16_set_42 : decode cJ16_set 42 = .ok (.getfield 11, 3) := dk_180 0 11 (dk_at dksJ16_set_1 18 rfl rfl)
theorem dJ16_set_45 : decode cJ16_set 45 = .ok (.iload_n 2, 1) := dk_28 (dk_at dksJ16_set_1 21 rfl rfl)
theorem dJ16_set_46 : decode cJ16_set 46 = .ok (.dup2, 1) := dk_92 (dk_at dksJ16_set_1 22 rfl rfl)
theorem dJ16_set_47 : decode cJ16_set 47 = .ok (.laload, 1) := dk_47 (dk_at dksJ16_set_1 23 rfl rfl)
theorem dJ16_set_48 : decode cJ16_set 48 = .ok (.lconst 1, 1) := dk_10 (dk_at dksJ16_set_2 0 rfl rfl)
theorem dJ16_set_49 : decode cJ16_set 49 = .ok (.iload_n 1, 1) := dk_27 (dk_at dksJ16_set_2 1 rfl rfl)
theorem dJ16_set_50 : decode cJ16_set 50 = .ok (.lshl, 1) := dk_121 (dk_at dksJ16_set_2 2 rfl rfl)
theorem dJ16_set_51 : decode cJ16_set 51 = .ok (.lor, 1) := dk_129 (dk_at dksJ16_set_2 3 rfl rfl)
theorem dJ16_set_52 : decode cJ16_set 52 = .ok (.lastore, 1) := dk_80 (dk_at dksJ16_set_2 4 rfl rfl)
theorem dJ16_set_53 : decode cJ16_set 53 = .ok (.aload_n 0, 1) := dk_42 (dk_at dksJ16_set_2 5 rfl rfl)
theorem dJ16_set_54 : decode cJ16_set 54 = .ok (.invokevirtual 56, 3) := dk_182 0 56 (dk_at dksJ16_set_2 6 rfl rfl)
theorem dJ16_set_57 : decode cJ16_set 57 = .ok (.return_, 1) := dk_177 (dk_at dksJ16_set_2 9 rfl rfl)
abbrev cJ16_expandTo : ByteArray := prog_44_method_15_code
def yJ16_expandTo : MethodName := ⟨RJ16, "expandTo", "(I)V"⟩
def dkwJ16_expandTo_0 : List UInt8 := [27, 4, 96, 61, 42, 180, 0, 7, 28, 162, 0, 13, 42, 28, 182, 0, 139, 42, 28, 181, 0, 7, 177]
abbrev dktJ16_expandTo_0 : List UInt8 := dkwJ16_expandTo_0 ++ []
theorem dksJ16_expandTo_0 : cJ16_expandTo.data.toList.drop 0 = dktJ16_expandTo_0 := by decide +kernel
theorem dJ16_expandTo_0 : decode cJ16_expandTo 0 = .ok (.iload_n 1, 1) := dk_27 (dk_at dksJ16_expandTo_0 0 rfl rfl)
theorem dJ16_expandTo_1 : decode cJ16_expandTo 1 = .ok (.iconst 1, 1) := dk_4 (dk_at dksJ16_expandTo_0 1 rfl rfl)
theorem dJ16_expandTo_2 : decode cJ16_expandTo 2 = .ok (.iadd, 1) := dk_96 (dk_at dksJ16_expandTo_0 2 rfl rfl)
theorem dJ16_expandTo_3 : decode cJ16_expandTo 3 = .ok (.istore_n 2, 1) := dk_61 (dk_at dksJ16_expandTo_0 3 rfl rfl)
theorem dJ16_expandTo_4 : decode cJ16_expandTo 4 = .ok (.aload_n 0, 1) := dk_42 (dk_at dksJ16_expandTo_0 4 rfl rfl)
theorem dJ16_expandTo_5 : decode cJ16_expandTo 5 = .ok (.getfield 7, 3) := dk_180 0 7 (dk_at dksJ16_expandTo_0 5 rfl rfl)
theorem dJ16_expandTo_8 : decode cJ16_expandTo 8 = .ok (.iload_n 2, 1) := dk_28 (dk_at dksJ16_expandTo_0 8 rfl rfl)
theorem dJ16_expandTo_9 : decode cJ16_expandTo 9 = .ok (.if_icmp .ge 13, 3) := dk_162 0 13 (dk_at dksJ16_expandTo_0 9 rfl rfl)
theorem dJ16_expandTo_12 : decode cJ16_expandTo 12 = .ok (.aload_n 0, 1) := dk_42 (dk_at dksJ16_expandTo_0 12 rfl rfl)
theorem dJ16_expandTo_13 : decode cJ16_expandTo 13 = .ok (.iload_n 2, 1) := dk_28 (dk_at dksJ16_expandTo_0 13 rfl rfl)
theorem dJ16_expandTo_14 : decode cJ16_expandTo 14 = .ok (.invokevirtual 139, 3) := dk_182 0 139 (dk_at dksJ16_expandTo_0 14 rfl rfl)
theorem dJ16_expandTo_17 : decode cJ16_expandTo 17 = .ok (.aload_n 0, 1) := dk_42 (dk_at dksJ16_expandTo_0 17 rfl rfl)
theorem dJ16_expandTo_18 : decode cJ16_expandTo 18 = .ok (.iload_n 2, 1) := dk_28 (dk_at dksJ16_expandTo_0 18 rfl rfl)
theorem dJ16_expandTo_19 : decode cJ16_expandTo 19 = .ok (.putfield 7, 3) := dk_181 0 7 (dk_at dksJ16_expandTo_0 19 rfl rfl)
theorem dJ16_expandTo_22 : decode cJ16_expandTo 22 = .ok (.return_, 1) := dk_177 (dk_at dksJ16_expandTo_0 22 rfl rfl)
abbrev cJ16_ensureCapacity : ByteArray := prog_44_method_14_code
def yJ16_ensureCapacity : MethodName := ⟨RJ16, "ensureCapacity", "(I)V"⟩
def dkwJ16_ensureCapacity_1 : List UInt8 := [180, 0, 11, 28, 184, 0, 59, 181, 0, 11, 42, 3, 181, 0, 24, 177]
abbrev dktJ16_ensureCapacity_1 : List UInt8 := dkwJ16_ensureCapacity_1 ++ []
def dkwJ16_ensureCapacity_0 : List UInt8 := [42, 180, 0, 11, 190, 27, 162, 0, 32, 5, 42, 180, 0, 11, 190, 104, 27, 184, 0, 133, 61, 42, 42]
abbrev dktJ16_ensureCapacity_0 : List UInt8 := dkwJ16_ensureCapacity_0 ++ dktJ16_ensureCapacity_1
theorem dksJ16_ensureCapacity_0 : cJ16_ensureCapacity.data.toList.drop 0 = dktJ16_ensureCapacity_0 := by decide +kernel
theorem dksJ16_ensureCapacity_1 : cJ16_ensureCapacity.data.toList.drop 23 = dktJ16_ensureCapacity_1 := dk_seg dksJ16_ensureCapacity_0 23 rfl rfl
theorem dJ16_ensureCapacity_0 : decode cJ16_ensureCapacity 0 = .ok (.aload_n 0, 1) := dk_42 (dk_at dksJ16_ensureCapacity_0 0 rfl rfl)
theorem dJ16_ensureCapacity_1 : decode cJ16_ensureCapacity 1 = .ok (.getfield 11, 3) := dk_180 0 11 (dk_at dksJ16_ensureCapacity_0 1 rfl rfl)
theorem dJ16_ensureCapacity_4 : decode cJ16_ensureCapacity 4 = .ok (.arraylength, 1) := dk_190 (dk_at dksJ16_ensureCapacity_0 4 rfl rfl)
theorem dJ16_ensureCapacity_5 : decode cJ16_ensureCapacity 5 = .ok (.iload_n 1, 1) := dk_27 (dk_at dksJ16_ensureCapacity_0 5 rfl rfl)
theorem dJ16_ensureCapacity_6 : decode cJ16_ensureCapacity 6 = .ok (.if_icmp .ge 32, 3) := dk_162 0 32 (dk_at dksJ16_ensureCapacity_0 6 rfl rfl)
theorem dJ16_ensureCapacity_9 : decode cJ16_ensureCapacity 9 = .ok (.iconst 2, 1) := dk_5 (dk_at dksJ16_ensureCapacity_0 9 rfl rfl)
theorem dJ16_ensureCapacity_10 : decode cJ16_ensureCapacity 10 = .ok (.aload_n 0, 1) := dk_42 (dk_at dksJ16_ensureCapacity_0 10 rfl rfl)
theorem dJ16_ensureCapacity_11 : decode cJ16_ensureCapacity 11 = .ok (.getfield 11, 3) := dk_180 0 11 (dk_at dksJ16_ensureCapacity_0 11 rfl rfl)
theorem dJ16_ensureCapacity_14 : decode cJ16_ensureCapacity 14 = .ok (.arraylength, 1) := dk_190 (dk_at dksJ16_ensureCapacity_0 14 rfl rfl)
theorem dJ16_ensureCapacity_15 : decode cJ16_ensureCapacity 15 = .ok (.imul, 1) := dk_104 (dk_at dksJ16_ensureCapacity_0 15 rfl rfl)
theorem dJ16_ensureCapacity_16 : decode cJ16_ensureCapacity 16 = .ok (.iload_n 1, 1) := dk_27 (dk_at dksJ16_ensureCapacity_0 16 rfl rfl)
theorem dJ16_ensureCapacity_17 : decode cJ16_ensureCapacity 17 = .ok (.invokestatic 133, 3) := dk_184 0 133 (dk_at dksJ16_ensureCapacity_0 17 rfl rfl)
theorem dJ16_ensureCapacity_20 : decode cJ16_ensureCapacity 20 = .ok (.istore_n 2, 1) := dk_61 (dk_at dksJ16_ensureCapacity_0 20 rfl rfl)
theorem dJ16_ensureCapacity_21 : decode cJ16_ensureCapacity 21 = .ok (.aload_n 0, 1) := dk_42 (dk_at dksJ16_ensureCapacity_0 21 rfl rfl)
theorem dJ16_ensureCapacity_22 : decode cJ16_ensureCapacity 22 = .ok (.aload_n 0, 1) := dk_42 (dk_at dksJ16_ensureCapacity_0 22 rfl rfl)
theorem dJ16_ensureCapacity_23 : decode cJ16_ensureCapacity 23 = .ok (.getfield 11, 3) := dk_180 0 11 (dk_at dksJ16_ensureCapacity_1 0 rfl rfl)
theorem dJ16_ensureCapacity_26 : decode cJ16_ensureCapacity 26 = .ok (.iload_n 2, 1) := dk_28 (dk_at dksJ16_ensureCapacity_1 3 rfl rfl)
theorem dJ16_ensureCapacity_27 : decode cJ16_ensureCapacity 27 = .ok (.invokestatic 59, 3) := dk_184 0 59 (dk_at dksJ16_ensureCapacity_1 4 rfl rfl)
theorem dJ16_ensureCapacity_30 : decode cJ16_ensureCapacity 30 = .ok (.putfield 11, 3) := dk_181 0 11 (dk_at dksJ16_ensureCapacity_1 7 rfl rfl)
theorem dJ16_ensureCapacity_33 : decode cJ16_ensureCapacity 33 = .ok (.aload_n 0, 1) := dk_42 (dk_at dksJ16_ensureCapacity_1 10 rfl rfl)
theorem dJ16_ensureCapacity_34 : decode cJ16_ensureCapacity 34 = .ok (.iconst 0, 1) := dk_3 (dk_at dksJ16_ensureCapacity_1 11 rfl rfl)
theorem dJ16_ensureCapacity_35 : decode cJ16_ensureCapacity 35 = .ok (.putfield 24, 3) := dk_181 0 24 (dk_at dksJ16_ensureCapacity_1 12 rfl rfl)
theorem dJ16_ensureCapacity_38 : decode cJ16_ensureCapacity 38 = .ok (.return_, 1) := dk_177 (dk_at dksJ16_ensureCapacity_1 15 rfl rfl)
abbrev cJ16_checkInvariants : ByteArray := prog_44_method_2_code
def yJ16_checkInvariants : MethodName := ⟨RJ16, "checkInvariants", "()V"⟩
def dkwJ16_checkInvariants_4 : List UInt8 := [180, 0, 7, 47, 9, 148, 153, 0, 11, 187, 0, 15, 89, 183, 0, 17, 191, 177]
abbrev dktJ16_checkInvariants_4 : List UInt8 := dkwJ16_checkInvariants_4 ++ []
def dkwJ16_checkInvariants_3 : List UInt8 := [178, 0, 3, 154, 0, 37, 42, 180, 0, 7, 42, 180, 0, 11, 190, 159, 0, 25, 42, 180, 0, 11, 42]
abbrev dktJ16_checkInvariants_3 : List UInt8 := dkwJ16_checkInvariants_3 ++ dktJ16_checkInvariants_4
def dkwJ16_checkInvariants_2 : List UInt8 := [155, 0, 15, 42, 180, 0, 7, 42, 180, 0, 11, 190, 164, 0, 11, 187, 0, 15, 89, 183, 0, 17, 191]
abbrev dktJ16_checkInvariants_2 : List UInt8 := dkwJ16_checkInvariants_2 ++ dktJ16_checkInvariants_3
def dkwJ16_checkInvariants_1 : List UInt8 := [9, 148, 154, 0, 11, 187, 0, 15, 89, 183, 0, 17, 191, 178, 0, 3, 154, 0, 30, 42, 180, 0, 7]
abbrev dktJ16_checkInvariants_1 : List UInt8 := dkwJ16_checkInvariants_1 ++ dktJ16_checkInvariants_2
def dkwJ16_checkInvariants_0 : List UInt8 := [178, 0, 3, 154, 0, 34, 42, 180, 0, 7, 153, 0, 27, 42, 180, 0, 11, 42, 180, 0, 7, 4, 100, 47]
abbrev dktJ16_checkInvariants_0 : List UInt8 := dkwJ16_checkInvariants_0 ++ dktJ16_checkInvariants_1
theorem dksJ16_checkInvariants_0 : cJ16_checkInvariants.data.toList.drop 0 = dktJ16_checkInvariants_0 := by decide +kernel
theorem dksJ16_checkInvariants_1 : cJ16_checkInvariants.data.toList.drop 24 = dktJ16_checkInvariants_1 := dk_seg dksJ16_checkInvariants_0 24 rfl rfl
theorem dksJ16_checkInvariants_2 : cJ16_checkInvariants.data.toList.drop 47 = dktJ16_checkInvariants_2 := dk_seg dksJ16_checkInvariants_1 23 rfl rfl
theorem dksJ16_checkInvariants_3 : cJ16_checkInvariants.data.toList.drop 70 = dktJ16_checkInvariants_3 := dk_seg dksJ16_checkInvariants_2 23 rfl rfl
theorem dksJ16_checkInvariants_4 : cJ16_checkInvariants.data.toList.drop 93 = dktJ16_checkInvariants_4 := dk_seg dksJ16_checkInvariants_3 23 rfl rfl
theorem dJ16_checkInvariants_0 : decode cJ16_checkInvariants 0 = .ok (.getstatic 3, 3) := dk_178 0 3 (dk_at dksJ16_checkInvariants_0 0 rfl rfl)
theorem dJ16_checkInvariants_3 : decode cJ16_checkInvariants 3 = .ok (.ifCond .ne 34, 3) := dk_154 0 34 (dk_at dksJ16_checkInvariants_0 3 rfl rfl)
theorem dJ16_checkInvariants_6 : decode cJ16_checkInvariants 6 = .ok (.aload_n 0, 1) := dk_42 (dk_at dksJ16_checkInvariants_0 6 rfl rfl)
theorem dJ16_checkInvariants_7 : decode cJ16_checkInvariants 7 = .ok (.getfield 7, 3) := dk_180 0 7 (dk_at dksJ16_checkInvariants_0 7 rfl rfl)
theorem dJ16_checkInvariants_10 : decode cJ16_checkInvariants 10 = .ok (.ifCond .eq 27, 3) := dk_153 0 27 (dk_at dksJ16_checkInvariants_0 10 rfl rfl)
theorem dJ16_checkInvariants_13 : decode cJ16_checkInvariants 13 = .ok (.aload_n 0, 1) := dk_42 (dk_at dksJ16_checkInvariants_0 13 rfl rfl)
theorem dJ16_checkInvariants_14 : decode cJ16_checkInvariants 14 = .ok (.getfield 11, 3) := dk_180 0 11 (dk_at dksJ16_checkInvariants_0 14 rfl rfl)
theorem dJ16_checkInvariants_17 : decode cJ16_checkInvariants 17 = .ok (.aload_n 0, 1) := dk_42 (dk_at dksJ16_checkInvariants_0 17 rfl rfl)
theorem dJ16_checkInvariants_18 : decode cJ16_checkInvariants 18 = .ok (.getfield 7, 3) := dk_180 0 7 (dk_at dksJ16_checkInvariants_0 18 rfl rfl)
theorem dJ16_checkInvariants_21 : decode cJ16_checkInvariants 21 = .ok (.iconst 1, 1) := dk_4 (dk_at dksJ16_checkInvariants_0 21 rfl rfl)
theorem dJ16_checkInvariants_22 : decode cJ16_checkInvariants 22 = .ok (.isub, 1) := dk_100 (dk_at dksJ16_checkInvariants_0 22 rfl rfl)
theorem dJ16_checkInvariants_23 : decode cJ16_checkInvariants 23 = .ok (.laload, 1) := dk_47 (dk_at dksJ16_checkInvariants_0 23 rfl rfl)
theorem dJ16_checkInvariants_24 : decode cJ16_checkInvariants 24 = .ok (.lconst 0, 1) := dk_9 (dk_at dksJ16_checkInvariants_1 0 rfl rfl)
theorem dJ16_checkInvariants_25 : decode cJ16_checkInvariants 25 = .ok (.lcmp, 1) := dk_148 (dk_at dksJ16_checkInvariants_1 1 rfl rfl)
theorem dJ16_checkInvariants_26 : decode cJ16_checkInvariants 26 = .ok (.ifCond .ne 11, 3) := dk_154 0 11 (dk_at dksJ16_checkInvariants_1 2 rfl rfl)
theorem dJ16_checkInvariants_29 : decode cJ16_checkInvariants 29 = .ok (.new 15, 3) := dk_187 0 15 (dk_at dksJ16_checkInvariants_1 5 rfl rfl)
theorem dJ16_checkInvariants_32 : decode cJ16_checkInvariants 32 = .ok (.dup, 1) := dk_89 (dk_at dksJ16_checkInvariants_1 8 rfl rfl)
theorem dJ16_checkInvariants_33 : decode cJ16_checkInvariants 33 = .ok (.invokespecial 17, 3) := dk_183 0 17 (dk_at dksJ16_checkInvariants_1 9 rfl rfl)
theorem dJ16_checkInvariants_36 : decode cJ16_checkInvariants 36 = .ok (.athrow, 1) := dk_191 (dk_at dksJ16_checkInvariants_1 12 rfl rfl)
theorem dJ16_checkInvariants_37 : decode cJ16_checkInvariants 37 = .ok (.getstatic 3, 3) := dk_178 0 3 (dk_at dksJ16_checkInvariants_1 13 rfl rfl)
theorem dJ16_checkInvariants_40 : decode cJ16_checkInvariants 40 = .ok (.ifCond .ne 30, 3) := dk_154 0 30 (dk_at dksJ16_checkInvariants_1 16 rfl rfl)
theorem dJ16_checkInvariants_43 : decode cJ16_checkInvariants 43 = .ok (.aload_n 0, 1) := dk_42 (dk_at dksJ16_checkInvariants_1 19 rfl rfl)
theorem dJ16_checkInvariants_44 : decode cJ16_checkInvariants 44 = .ok (.getfield 7, 3) := dk_180 0 7 (dk_at dksJ16_checkInvariants_1 20 rfl rfl)
theorem dJ16_checkInvariants_47 : decode cJ16_checkInvariants 47 = .ok (.ifCond .lt 15, 3) := dk_155 0 15 (dk_at dksJ16_checkInvariants_2 0 rfl rfl)
theorem dJ16_checkInvariants_50 : decode cJ16_checkInvariants 50 = .ok (.aload_n 0, 1) := dk_42 (dk_at dksJ16_checkInvariants_2 3 rfl rfl)
theorem dJ16_checkInvariants_51 : decode cJ16_checkInvariants 51 = .ok (.getfield 7, 3) := dk_180 0 7 (dk_at dksJ16_checkInvariants_2 4 rfl rfl)
theorem dJ16_checkInvariants_54 : decode cJ16_checkInvariants 54 = .ok (.aload_n 0, 1) := dk_42 (dk_at dksJ16_checkInvariants_2 7 rfl rfl)
theorem dJ16_checkInvariants_55 : decode cJ16_checkInvariants 55 = .ok (.getfield 11, 3) := dk_180 0 11 (dk_at dksJ16_checkInvariants_2 8 rfl rfl)
theorem dJ16_checkInvariants_58 : decode cJ16_checkInvariants 58 = .ok (.arraylength, 1) := dk_190 (dk_at dksJ16_checkInvariants_2 11 rfl rfl)
theorem dJ16_checkInvariants_59 : decode cJ16_checkInvariants 59 = .ok (.if_icmp .le 11, 3) := dk_164 0 11 (dk_at dksJ16_checkInvariants_2 12 rfl rfl)
theorem dJ16_checkInvariants_62 : decode cJ16_checkInvariants 62 = .ok (.new 15, 3) := dk_187 0 15 (dk_at dksJ16_checkInvariants_2 15 rfl rfl)
theorem dJ16_checkInvariants_65 : decode cJ16_checkInvariants 65 = .ok (.dup, 1) := dk_89 (dk_at dksJ16_checkInvariants_2 18 rfl rfl)
theorem dJ16_checkInvariants_66 : decode cJ16_checkInvariants 66 = .ok (.invokespecial 17, 3) := dk_183 0 17 (dk_at dksJ16_checkInvariants_2 19 rfl rfl)
theorem dJ16_checkInvariants_69 : decode cJ16_checkInvariants 69 = .ok (.athrow, 1) := dk_191 (dk_at dksJ16_checkInvariants_2 22 rfl rfl)
theorem dJ16_checkInvariants_70 : decode cJ16_checkInvariants 70 = .ok (.getstatic 3, 3) := dk_178 0 3 (dk_at dksJ16_checkInvariants_3 0 rfl rfl)
theorem dJ16_checkInvariants_73 : decode cJ16_checkInvariants 73 = .ok (.ifCond .ne 37, 3) := dk_154 0 37 (dk_at dksJ16_checkInvariants_3 3 rfl rfl)
theorem dJ16_checkInvariants_76 : decode cJ16_checkInvariants 76 = .ok (.aload_n 0, 1) := dk_42 (dk_at dksJ16_checkInvariants_3 6 rfl rfl)
theorem dJ16_checkInvariants_77 : decode cJ16_checkInvariants 77 = .ok (.getfield 7, 3) := dk_180 0 7 (dk_at dksJ16_checkInvariants_3 7 rfl rfl)
theorem dJ16_checkInvariants_80 : decode cJ16_checkInvariants 80 = .ok (.aload_n 0, 1) := dk_42 (dk_at dksJ16_checkInvariants_3 10 rfl rfl)
theorem dJ16_checkInvariants_81 : decode cJ16_checkInvariants 81 = .ok (.getfield 11, 3) := dk_180 0 11 (dk_at dksJ16_checkInvariants_3 11 rfl rfl)
theorem dJ16_checkInvariants_84 : decode cJ16_checkInvariants 84 = .ok (.arraylength, 1) := dk_190 (dk_at dksJ16_checkInvariants_3 14 rfl rfl)
theorem dJ16_checkInvariants_85 : decode cJ16_checkInvariants 85 = .ok (.if_icmp .eq 25, 3) := dk_159 0 25 (dk_at dksJ16_checkInvariants_3 15 rfl rfl)
theorem dJ16_checkInvariants_88 : decode cJ16_checkInvariants 88 = .ok (.aload_n 0, 1) := dk_42 (dk_at dksJ16_checkInvariants_3 18 rfl rfl)
theorem dJ16_checkInvariants_89 : decode cJ16_checkInvariants 89 = .ok (.getfield 11, 3) := dk_180 0 11 (dk_at dksJ16_checkInvariants_3 19 rfl rfl)
theorem dJ16_checkInvariants_92 : decode cJ16_checkInvariants 92 = .ok (.aload_n 0, 1) := dk_42 (dk_at dksJ16_checkInvariants_3 22 rfl rfl)
theorem dJ16_checkInvariants_93 : decode cJ16_checkInvariants 93 = .ok (.getfield 7, 3) := dk_180 0 7 (dk_at dksJ16_checkInvariants_4 0 rfl rfl)
theorem dJ16_checkInvariants_96 : decode cJ16_checkInvariants 96 = .ok (.laload, 1) := dk_47 (dk_at dksJ16_checkInvariants_4 3 rfl rfl)
theorem dJ16_checkInvariants_97 : decode cJ16_checkInvariants 97 = .ok (.lconst 0, 1) := dk_9 (dk_at dksJ16_checkInvariants_4 4 rfl rfl)
theorem dJ16_checkInvariants_98 : decode cJ16_checkInvariants 98 = .ok (.lcmp, 1) := dk_148 (dk_at dksJ16_checkInvariants_4 5 rfl rfl)
theorem dJ16_checkInvariants_99 : decode cJ16_checkInvariants 99 = .ok (.ifCond .eq 11, 3) := dk_153 0 11 (dk_at dksJ16_checkInvariants_4 6 rfl rfl)
theorem dJ16_checkInvariants_102 : decode cJ16_checkInvariants 102 = .ok (.new 15, 3) := dk_187 0 15 (dk_at dksJ16_checkInvariants_4 9 rfl rfl)
theorem dJ16_checkInvariants_105 : decode cJ16_checkInvariants 105 = .ok (.dup, 1) := dk_89 (dk_at dksJ16_checkInvariants_4 12 rfl rfl)
theorem dJ16_checkInvariants_106 : decode cJ16_checkInvariants 106 = .ok (.invokespecial 17, 3) := dk_183 0 17 (dk_at dksJ16_checkInvariants_4 13 rfl rfl)
theorem dJ16_checkInvariants_109 : decode cJ16_checkInvariants 109 = .ok (.athrow, 1) := dk_191 (dk_at dksJ16_checkInvariants_4 16 rfl rfl)
theorem dJ16_checkInvariants_110 : decode cJ16_checkInvariants 110 = .ok (.return_, 1) := dk_177 (dk_at dksJ16_checkInvariants_4 17 rfl rfl)
abbrev cJ16_get : ByteArray := prog_44_method_26_code
def yJ16_get : MethodName := ⟨RJ16, "get", "(I)Z"⟩
def dkwJ16_get_2 : List UInt8 := [42, 180, 0, 11, 28, 47, 10, 27, 121, 127, 9, 148, 153, 0, 7, 4, 167, 0, 4, 3, 172]
abbrev dktJ16_get_2 : List UInt8 := dkwJ16_get_2 ++ []
def dkwJ16_get_1 : List UInt8 := [182, 0, 45, 183, 0, 146, 191, 42, 182, 0, 56, 27, 184, 0, 52, 61, 28, 42, 180, 0, 7, 162, 0, 22]
abbrev dktJ16_get_1 : List UInt8 := dkwJ16_get_1 ++ dktJ16_get_2
def dkwJ16_get_0 : List UInt8 := [27, 156, 0, 30, 187, 0, 142, 89, 187, 0, 33, 89, 183, 0, 35, 18, 153, 182, 0, 38, 27, 182, 0, 42]
abbrev dktJ16_get_0 : List UInt8 := dkwJ16_get_0 ++ dktJ16_get_1
theorem dksJ16_get_0 : cJ16_get.data.toList.drop 0 = dktJ16_get_0 := by decide +kernel
theorem dksJ16_get_1 : cJ16_get.data.toList.drop 24 = dktJ16_get_1 := dk_seg dksJ16_get_0 24 rfl rfl
theorem dksJ16_get_2 : cJ16_get.data.toList.drop 48 = dktJ16_get_2 := dk_seg dksJ16_get_1 24 rfl rfl
theorem dJ16_get_0 : decode cJ16_get 0 = .ok (.iload_n 1, 1) := dk_27 (dk_at dksJ16_get_0 0 rfl rfl)
theorem dJ16_get_1 : decode cJ16_get 1 = .ok (.ifCond .ge 30, 3) := dk_156 0 30 (dk_at dksJ16_get_0 1 rfl rfl)
theorem dJ16_get_4 : decode cJ16_get 4 = .ok (.new 142, 3) := dk_187 0 142 (dk_at dksJ16_get_0 4 rfl rfl)
theorem dJ16_get_7 : decode cJ16_get 7 = .ok (.dup, 1) := dk_89 (dk_at dksJ16_get_0 7 rfl rfl)
theorem dJ16_get_8 : decode cJ16_get 8 = .ok (.new 33, 3) := dk_187 0 33 (dk_at dksJ16_get_0 8 rfl rfl)
theorem dJ16_get_11 : decode cJ16_get 11 = .ok (.dup, 1) := dk_89 (dk_at dksJ16_get_0 11 rfl rfl)
theorem dJ16_get_12 : decode cJ16_get 12 = .ok (.invokespecial 35, 3) := dk_183 0 35 (dk_at dksJ16_get_0 12 rfl rfl)
theorem dJ16_get_15 : decode cJ16_get 15 = .ok (.ldc 153, 2) := dk_18 153 (dk_at dksJ16_get_0 15 rfl rfl)
theorem dJ16_get_17 : decode cJ16_get 17 = .ok (.invokevirtual 38, 3) := dk_182 0 38 (dk_at dksJ16_get_0 17 rfl rfl)
theorem dJ16_get_20 : decode cJ16_get 20 = .ok (.iload_n 1, 1) := dk_27 (dk_at dksJ16_get_0 20 rfl rfl)
theorem dJ16_get_21 : decode cJ16_get 21 = .ok (.invokevirtual 42, 3) := dk_182 0 42 (dk_at dksJ16_get_0 21 rfl rfl)
theorem dJ16_get_24 : decode cJ16_get 24 = .ok (.invokevirtual 45, 3) := dk_182 0 45 (dk_at dksJ16_get_1 0 rfl rfl)
theorem dJ16_get_27 : decode cJ16_get 27 = .ok (.invokespecial 146, 3) := dk_183 0 146 (dk_at dksJ16_get_1 3 rfl rfl)
theorem dJ16_get_30 : decode cJ16_get 30 = .ok (.athrow, 1) := dk_191 (dk_at dksJ16_get_1 6 rfl rfl)
theorem dJ16_get_31 : decode cJ16_get 31 = .ok (.aload_n 0, 1) := dk_42 (dk_at dksJ16_get_1 7 rfl rfl)
theorem dJ16_get_32 : decode cJ16_get 32 = .ok (.invokevirtual 56, 3) := dk_182 0 56 (dk_at dksJ16_get_1 8 rfl rfl)
theorem dJ16_get_35 : decode cJ16_get 35 = .ok (.iload_n 1, 1) := dk_27 (dk_at dksJ16_get_1 11 rfl rfl)
theorem dJ16_get_36 : decode cJ16_get 36 = .ok (.invokestatic 52, 3) := dk_184 0 52 (dk_at dksJ16_get_1 12 rfl rfl)
theorem dJ16_get_39 : decode cJ16_get 39 = .ok (.istore_n 2, 1) := dk_61 (dk_at dksJ16_get_1 15 rfl rfl)
theorem dJ16_get_40 : decode cJ16_get 40 = .ok (.iload_n 2, 1) := dk_28 (dk_at dksJ16_get_1 16 rfl rfl)
theorem dJ16_get_41 : decode cJ16_get 41 = .ok (.aload_n 0, 1) := dk_42 (dk_at dksJ16_get_1 17 rfl rfl)
theorem dJ16_get_42 : decode cJ16_get 42 = .ok (.getfield 7, 3) := dk_180 0 7 (dk_at dksJ16_get_1 18 rfl rfl)
theorem dJ16_get_45 : decode cJ16_get 45 = .ok (.if_icmp .ge 22, 3) := dk_162 0 22 (dk_at dksJ16_get_1 21 rfl rfl)
theorem dJ16_get_48 : decode cJ16_get 48 = .ok (.aload_n 0, 1) := dk_42 (dk_at dksJ16_get_2 0 rfl rfl)
theorem dJ16_get_49 : decode cJ16_get 49 = .ok (.getfield 11, 3) := dk_180 0 11 (dk_at dksJ16_get_2 1 rfl rfl)
theorem dJ16_get_52 : decode cJ16_get 52 = .ok (.iload_n 2, 1) := dk_28 (dk_at dksJ16_get_2 4 rfl rfl)
theorem dJ16_get_53 : decode cJ16_get 53 = .ok (.laload, 1) := dk_47 (dk_at dksJ16_get_2 5 rfl rfl)
theorem dJ16_get_54 : decode cJ16_get 54 = .ok (.lconst 1, 1) := dk_10 (dk_at dksJ16_get_2 6 rfl rfl)
theorem dJ16_get_55 : decode cJ16_get 55 = .ok (.iload_n 1, 1) := dk_27 (dk_at dksJ16_get_2 7 rfl rfl)
theorem dJ16_get_56 : decode cJ16_get 56 = .ok (.lshl, 1) := dk_121 (dk_at dksJ16_get_2 8 rfl rfl)
theorem dJ16_get_57 : decode cJ16_get 57 = .ok (.land, 1) := dk_127 (dk_at dksJ16_get_2 9 rfl rfl)
theorem dJ16_get_58 : decode cJ16_get 58 = .ok (.lconst 0, 1) := dk_9 (dk_at dksJ16_get_2 10 rfl rfl)
theorem dJ16_get_59 : decode cJ16_get 59 = .ok (.lcmp, 1) := dk_148 (dk_at dksJ16_get_2 11 rfl rfl)
theorem dJ16_get_60 : decode cJ16_get 60 = .ok (.ifCond .eq 7, 3) := dk_153 0 7 (dk_at dksJ16_get_2 12 rfl rfl)
theorem dJ16_get_63 : decode cJ16_get 63 = .ok (.iconst 1, 1) := dk_4 (dk_at dksJ16_get_2 15 rfl rfl)
theorem dJ16_get_64 : decode cJ16_get 64 = .ok (.goto 4, 3) := dk_167 0 4 (dk_at dksJ16_get_2 16 rfl rfl)
theorem dJ16_get_67 : decode cJ16_get 67 = .ok (.iconst 0, 1) := dk_3 (dk_at dksJ16_get_2 19 rfl rfl)
theorem dJ16_get_68 : decode cJ16_get 68 = .ok (.ireturn, 1) := dk_172 (dk_at dksJ16_get_2 20 rfl rfl)
abbrev cJ16_cardinality : ByteArray := prog_44_method_35_code
def yJ16_cardinality : MethodName := ⟨RJ16, "cardinality", "()I"⟩
def dkwJ16_cardinality_1 : List UInt8 := [132, 2, 1, 167, 255, 233, 27, 172]
abbrev dktJ16_cardinality_1 : List UInt8 := dkwJ16_cardinality_1 ++ []
def dkwJ16_cardinality_0 : List UInt8 := [3, 60, 3, 61, 28, 42, 180, 0, 7, 162, 0, 21, 27, 42, 180, 0, 11, 28, 47, 184, 0, 196, 96, 60]
abbrev dktJ16_cardinality_0 : List UInt8 := dkwJ16_cardinality_0 ++ dktJ16_cardinality_1
theorem dksJ16_cardinality_0 : cJ16_cardinality.data.toList.drop 0 = dktJ16_cardinality_0 := by decide +kernel
theorem dksJ16_cardinality_1 : cJ16_cardinality.data.toList.drop 24 = dktJ16_cardinality_1 := dk_seg dksJ16_cardinality_0 24 rfl rfl
theorem dJ16_cardinality_0 : decode cJ16_cardinality 0 = .ok (.iconst 0, 1) := dk_3 (dk_at dksJ16_cardinality_0 0 rfl rfl)
theorem dJ16_cardinality_1 : decode cJ16_cardinality 1 = .ok (.istore_n 1, 1) := dk_60 (dk_at dksJ16_cardinality_0 1 rfl rfl)
theorem dJ16_cardinality_2 : decode cJ16_cardinality 2 = .ok (.iconst 0, 1) := dk_3 (dk_at dksJ16_cardinality_0 2 rfl rfl)
theorem dJ16_cardinality_3 : decode cJ16_cardinality 3 = .ok (.istore_n 2, 1) := dk_61 (dk_at dksJ16_cardinality_0 3 rfl rfl)
theorem dJ16_cardinality_4 : decode cJ16_cardinality 4 = .ok (.iload_n 2, 1) := dk_28 (dk_at dksJ16_cardinality_0 4 rfl rfl)
theorem dJ16_cardinality_5 : decode cJ16_cardinality 5 = .ok (.aload_n 0, 1) := dk_42 (dk_at dksJ16_cardinality_0 5 rfl rfl)
theorem dJ16_cardinality_6 : decode cJ16_cardinality 6 = .ok (.getfield 7, 3) := dk_180 0 7 (dk_at dksJ16_cardinality_0 6 rfl rfl)
theorem dJ16_cardinality_9 : decode cJ16_cardinality 9 = .ok (.if_icmp .ge 21, 3) := dk_162 0 21 (dk_at dksJ16_cardinality_0 9 rfl rfl)
theorem dJ16_cardinality_12 : decode cJ16_cardinality 12 = .ok (.iload_n 1, 1) := dk_27 (dk_at dksJ16_cardinality_0 12 rfl rfl)
theorem dJ16_cardinality_13 : decode cJ16_cardinality 13 = .ok (.aload_n 0, 1) := dk_42 (dk_at dksJ16_cardinality_0 13 rfl rfl)
theorem dJ16_cardinality_14 : decode cJ16_cardinality 14 = .ok (.getfield 11, 3) := dk_180 0 11 (dk_at dksJ16_cardinality_0 14 rfl rfl)
theorem dJ16_cardinality_17 : decode cJ16_cardinality 17 = .ok (.iload_n 2, 1) := dk_28 (dk_at dksJ16_cardinality_0 17 rfl rfl)
theorem dJ16_cardinality_18 : decode cJ16_cardinality 18 = .ok (.laload, 1) := dk_47 (dk_at dksJ16_cardinality_0 18 rfl rfl)
theorem dJ16_cardinality_19 : decode cJ16_cardinality 19 = .ok (.invokestatic 196, 3) := dk_184 0 196 (dk_at dksJ16_cardinality_0 19 rfl rfl)
theorem dJ16_cardinality_22 : decode cJ16_cardinality 22 = .ok (.iadd, 1) := dk_96 (dk_at dksJ16_cardinality_0 22 rfl rfl)
theorem dJ16_cardinality_23 : decode cJ16_cardinality 23 = .ok (.istore_n 1, 1) := dk_60 (dk_at dksJ16_cardinality_0 23 rfl rfl)
theorem dJ16_cardinality_24 : decode cJ16_cardinality 24 = .ok (.iinc 2 1, 3) := dk_132 2 1 (dk_at dksJ16_cardinality_1 0 rfl rfl)
theorem dJ16_cardinality_27 : decode cJ16_cardinality 27 = .ok (.goto (-23), 3) := dk_167 255 233 (dk_at dksJ16_cardinality_1 3 rfl rfl)
theorem dJ16_cardinality_30 : decode cJ16_cardinality 30 = .ok (.iload_n 1, 1) := dk_27 (dk_at dksJ16_cardinality_1 6 rfl rfl)
theorem dJ16_cardinality_31 : decode cJ16_cardinality 31 = .ok (.ireturn, 1) := dk_172 (dk_at dksJ16_cardinality_1 7 rfl rfl)
theorem q111 : (Jvm.Cond.initialized "java/util/BitSet") ∈ lw_all := lw_g (lw_at lw_m1 24 rfl) rfl
theorem q473 : (Jvm.Cond.selects "java/util/BitSet" ({ cls := "java/lang/Object", name := "getClass", desc := "()Ljava/lang/Class;" } : Jvm.MethodName) ({ cls := "java/lang/Object", name := "getClass", desc := "()Ljava/lang/Class;" } : Jvm.MethodName)) ∈ lw_all := lw_g (lw_at lw_m2 146 rfl) rfl
theorem q750 : (Jvm.Cond.instantiable "java/util/BitSet" (3 : Nat)) ∈ lw_all := lw_g (lw_at lw_m3 183 rfl) rfl
theorem q752 : (Jvm.Cond.instanceMethod ({ cls := "java/util/BitSet", name := "<init>", desc := "()V" } : Jvm.MethodName)) ∈ lw_all := lw_g (lw_at lw_m3 185 rfl) rfl
theorem q753 : (Jvm.Cond.code ({ cls := "java/util/BitSet", name := "<init>", desc := "()V" } : Jvm.MethodName) prog_44_method_4_code (1 : Nat) (Option.none : Option Jvm.ClassFile.FieldType)) ∈ lw_all := lw_g (lw_at lw_m3 186 rfl) rfl
theorem q754 : (Jvm.Cond.methodLink "java/util/BitSet" (21 : Nat) ({ cls := "java/lang/Object", name := "<init>", desc := "()V" } : Jvm.MethodName)) ∈ lw_all := lw_g (lw_at lw_m3 187 rfl) rfl
theorem q755 : (Jvm.Cond.methodLink "java/util/BitSet" (27 : Nat) ({ cls := "java/util/BitSet", name := "initWords", desc := "(I)V" } : Jvm.MethodName)) ∈ lw_all := lw_g (lw_at lw_m3 188 rfl) rfl
theorem q756 : (Jvm.Cond.privateMethod ({ cls := "java/util/BitSet", name := "initWords", desc := "(I)V" } : Jvm.MethodName)) ∈ lw_tbl := lw_at lw_m3 189 rfl
theorem q757 : (Jvm.Cond.instanceMethod ({ cls := "java/util/BitSet", name := "initWords", desc := "(I)V" } : Jvm.MethodName)) ∈ lw_all := lw_g (lw_at lw_m3 190 rfl) rfl
theorem q758 : (Jvm.Cond.code ({ cls := "java/util/BitSet", name := "initWords", desc := "(I)V" } : Jvm.MethodName) prog_44_method_6_code (2 : Nat) (Option.none : Option Jvm.ClassFile.FieldType)) ∈ lw_all := lw_g (lw_at lw_m3 191 rfl) rfl
theorem q759 : (Jvm.Cond.methodLink "java/util/BitSet" (52 : Nat) ({ cls := "java/util/BitSet", name := "wordIndex", desc := "(I)I" } : Jvm.MethodName)) ∈ lw_all := lw_g (lw_at lw_m3 192 rfl) rfl
theorem q760 : (Jvm.Cond.static ({ cls := "java/util/BitSet", name := "wordIndex", desc := "(I)I" } : Jvm.MethodName)) ∈ lw_all := lw_g (lw_at lw_m3 193 rfl) rfl
theorem q761 : (Jvm.Cond.code ({ cls := "java/util/BitSet", name := "wordIndex", desc := "(I)I" } : Jvm.MethodName) prog_44_method_1_code (1 : Nat) (Option.some Jvm.ClassFile.FieldType.int)) ∈ lw_all := lw_g (lw_at lw_m3 194 rfl) rfl
theorem q762 : (Jvm.Cond.fieldLink "java/util/BitSet" (11 : Nat) "java/util/BitSet" "words" "[J") ∈ lw_all := lw_g (lw_at lw_m3 195 rfl) rfl
theorem q763 : (Jvm.Cond.fieldLink "java/util/BitSet" (7 : Nat) "java/util/BitSet" "wordsInUse" "I") ∈ lw_all := lw_g (lw_at lw_m3 196 rfl) rfl
theorem q764 : (Jvm.Cond.fieldLink "java/util/BitSet" (24 : Nat) "java/util/BitSet" "sizeIsSticky" "Z") ∈ lw_all := lw_g (lw_at lw_m3 197 rfl) rfl
theorem q765 : (Jvm.Cond.lays "java/util/BitSet" "java/util/BitSet" "words" "[J") ∈ lw_all := lw_g (lw_at lw_m3 198 rfl) rfl
theorem q766 : (Jvm.Cond.soleField "java/util/BitSet" "words") ∈ lw_all := lw_g (lw_at lw_m3 199 rfl) rfl
theorem q767 : (Jvm.Cond.lays "java/util/BitSet" "java/util/BitSet" "wordsInUse" "I") ∈ lw_all := lw_g (lw_at lw_m3 200 rfl) rfl
theorem q768 : (Jvm.Cond.soleField "java/util/BitSet" "wordsInUse") ∈ lw_all := lw_g (lw_at lw_m3 201 rfl) rfl
theorem q769 : (Jvm.Cond.lays "java/util/BitSet" "java/util/BitSet" "sizeIsSticky" "Z") ∈ lw_all := lw_g (lw_at lw_m3 202 rfl) rfl
theorem q770 : (Jvm.Cond.soleField "java/util/BitSet" "sizeIsSticky") ∈ lw_all := lw_g (lw_at lw_m3 203 rfl) rfl
theorem q771 : (Jvm.Cond.superclass "java/util/BitSet" "java/lang/Object") ∈ lw_all := lw_g (lw_at lw_m3 204 rfl) rfl
theorem q1543 : (Jvm.Cond.instanceMethod ({ cls := "java/util/BitSet", name := "set", desc := "(I)V" } : Jvm.MethodName)) ∈ lw_all := lw_g (lw_at lw_m7 16 rfl) rfl
theorem q1544 : (Jvm.Cond.selects "java/util/BitSet" ({ cls := "java/util/BitSet", name := "set", desc := "(I)V" } : Jvm.MethodName) ({ cls := "java/util/BitSet", name := "set", desc := "(I)V" } : Jvm.MethodName)) ∈ lw_all := lw_g (lw_at lw_m7 17 rfl) rfl
theorem q1545 : (Jvm.Cond.code ({ cls := "java/util/BitSet", name := "set", desc := "(I)V" } : Jvm.MethodName) prog_44_method_19_code (3 : Nat) (Option.none : Option Jvm.ClassFile.FieldType)) ∈ lw_all := lw_g (lw_at lw_m7 18 rfl) rfl
theorem q1546 : (Jvm.Cond.methodLink "java/util/BitSet" (155 : Nat) ({ cls := "java/util/BitSet", name := "expandTo", desc := "(I)V" } : Jvm.MethodName)) ∈ lw_all := lw_g (lw_at lw_m7 19 rfl) rfl
theorem q1547 : (Jvm.Cond.privateMethod ({ cls := "java/util/BitSet", name := "expandTo", desc := "(I)V" } : Jvm.MethodName)) ∈ lw_tbl := lw_at lw_m7 20 rfl
theorem q1548 : (Jvm.Cond.instanceMethod ({ cls := "java/util/BitSet", name := "expandTo", desc := "(I)V" } : Jvm.MethodName)) ∈ lw_all := lw_g (lw_at lw_m7 21 rfl) rfl
theorem q1549 : (Jvm.Cond.code ({ cls := "java/util/BitSet", name := "expandTo", desc := "(I)V" } : Jvm.MethodName) prog_44_method_15_code (3 : Nat) (Option.none : Option Jvm.ClassFile.FieldType)) ∈ lw_all := lw_g (lw_at lw_m7 22 rfl) rfl
theorem q1550 : (Jvm.Cond.methodLink "java/util/BitSet" (139 : Nat) ({ cls := "java/util/BitSet", name := "ensureCapacity", desc := "(I)V" } : Jvm.MethodName)) ∈ lw_all := lw_g (lw_at lw_m7 23 rfl) rfl
theorem q1551 : (Jvm.Cond.privateMethod ({ cls := "java/util/BitSet", name := "ensureCapacity", desc := "(I)V" } : Jvm.MethodName)) ∈ lw_tbl := lw_at lw_m7 24 rfl
theorem q1552 : (Jvm.Cond.instanceMethod ({ cls := "java/util/BitSet", name := "ensureCapacity", desc := "(I)V" } : Jvm.MethodName)) ∈ lw_all := lw_g (lw_at lw_m7 25 rfl) rfl
theorem q1553 : (Jvm.Cond.code ({ cls := "java/util/BitSet", name := "ensureCapacity", desc := "(I)V" } : Jvm.MethodName) prog_44_method_14_code (3 : Nat) (Option.none : Option Jvm.ClassFile.FieldType)) ∈ lw_all := lw_g (lw_at lw_m7 26 rfl) rfl
theorem q1554 : (Jvm.Cond.methodLink "java/util/BitSet" (133 : Nat) ({ cls := "java/lang/Math", name := "max", desc := "(II)I" } : Jvm.MethodName)) ∈ lw_all := lw_g (lw_at lw_m7 27 rfl) rfl
theorem q1555 : (Jvm.Cond.methodLink "java/util/BitSet" (59 : Nat) ({ cls := "java/util/Arrays", name := "copyOf", desc := "([JI)[J" } : Jvm.MethodName)) ∈ lw_all := lw_g (lw_at lw_m7 28 rfl) rfl
theorem q1565 : (Jvm.Cond.methodLink "java/util/BitSet" (56 : Nat) ({ cls := "java/util/BitSet", name := "checkInvariants", desc := "()V" } : Jvm.MethodName)) ∈ lw_all := lw_g (lw_at lw_m7 38 rfl) rfl
theorem q1566 : (Jvm.Cond.privateMethod ({ cls := "java/util/BitSet", name := "checkInvariants", desc := "()V" } : Jvm.MethodName)) ∈ lw_tbl := lw_at lw_m7 39 rfl
theorem q1567 : (Jvm.Cond.instanceMethod ({ cls := "java/util/BitSet", name := "checkInvariants", desc := "()V" } : Jvm.MethodName)) ∈ lw_all := lw_g (lw_at lw_m7 40 rfl) rfl
theorem q1568 : (Jvm.Cond.code ({ cls := "java/util/BitSet", name := "checkInvariants", desc := "()V" } : Jvm.MethodName) prog_44_method_2_code (1 : Nat) (Option.none : Option Jvm.ClassFile.FieldType)) ∈ lw_all := lw_g (lw_at lw_m7 41 rfl) rfl
theorem q1569 : (Jvm.Cond.fieldLink "java/util/BitSet" (3 : Nat) "java/util/BitSet" "$assertionsDisabled" "Z") ∈ lw_all := lw_g (lw_at lw_m7 42 rfl) rfl
theorem q1570 : (Jvm.Cond.laysStatic "java/util/BitSet" "$assertionsDisabled" "Z") ∈ lw_tbl := lw_at lw_m7 43 rfl
theorem q1600 : (Jvm.Cond.instanceMethod ({ cls := "java/util/BitSet", name := "get", desc := "(I)Z" } : Jvm.MethodName)) ∈ lw_all := lw_g (lw_at lw_m7 73 rfl) rfl
theorem q1601 : (Jvm.Cond.selects "java/util/BitSet" ({ cls := "java/util/BitSet", name := "get", desc := "(I)Z" } : Jvm.MethodName) ({ cls := "java/util/BitSet", name := "get", desc := "(I)Z" } : Jvm.MethodName)) ∈ lw_all := lw_g (lw_at lw_m7 74 rfl) rfl
theorem q1602 : (Jvm.Cond.code ({ cls := "java/util/BitSet", name := "get", desc := "(I)Z" } : Jvm.MethodName) prog_44_method_26_code (3 : Nat) (Option.some Jvm.ClassFile.FieldType.boolean)) ∈ lw_all := lw_g (lw_at lw_m7 75 rfl) rfl
theorem q2439 : (Jvm.Cond.instanceMethod ({ cls := "java/util/BitSet", name := "cardinality", desc := "()I" } : Jvm.MethodName)) ∈ lw_all := lw_g (lw_at lw_m10 192 rfl) rfl
theorem q2440 : (Jvm.Cond.selects "java/util/BitSet" ({ cls := "java/util/BitSet", name := "cardinality", desc := "()I" } : Jvm.MethodName) ({ cls := "java/util/BitSet", name := "cardinality", desc := "()I" } : Jvm.MethodName)) ∈ lw_all := lw_g (lw_at lw_m10 193 rfl) rfl
theorem q2441 : (Jvm.Cond.code ({ cls := "java/util/BitSet", name := "cardinality", desc := "()I" } : Jvm.MethodName) prog_44_method_35_code (3 : Nat) (Option.some Jvm.ClassFile.FieldType.int)) ∈ lw_all := lw_g (lw_at lw_m10 194 rfl) rfl
theorem q2442 : (Jvm.Cond.methodLink "java/util/BitSet" (196 : Nat) ({ cls := "java/lang/Long", name := "bitCount", desc := "(J)I" } : Jvm.MethodName)) ∈ lw_all := lw_g (lw_at lw_m10 195 rfl) rfl
theorem q2897 : (Jvm.Cond.castable "java/util/BitSet" "java/lang/Object") ∈ lw_tbl := lw_at lw_m12 170 rfl
theorem in_J16 : ∀ w ∈ wsJ160, w ∈ lw_all := lw_in wsJ160 [765, 767, 769] (by decide +kernel) (by decide +kernel)
/-! java/util/AbstractSet -/
set_option maxRecDepth 100000
def RJ17 : String := "java/util/AbstractSet"
abbrev cJ17_init : ByteArray := prog_39_method_1_code
def yJ17_init : MethodName := ⟨RJ17, "<init>", "()V"⟩
theorem dJ17_init_0 : decode cJ17_init 0 = .ok (.aload_n 0, 1) := by decide +kernel
theorem dJ17_init_1 : decode cJ17_init 1 = .ok (.invokespecial 1, 3) := by decide +kernel
theorem dJ17_init_4 : decode cJ17_init 4 = .ok (.return_, 1) := by decide +kernel
theorem q112 : (Jvm.Cond.initialized "java/util/AbstractSet") ∈ lw_all := lw_g (lw_at lw_m1 25 rfl) rfl
theorem q787 : (Jvm.Cond.instanceMethod ({ cls := "java/util/AbstractSet", name := "<init>", desc := "()V" } : Jvm.MethodName)) ∈ lw_all := lw_g (lw_at lw_m3 220 rfl) rfl
theorem q788 : (Jvm.Cond.code ({ cls := "java/util/AbstractSet", name := "<init>", desc := "()V" } : Jvm.MethodName) prog_39_method_1_code (1 : Nat) (Option.none : Option Jvm.ClassFile.FieldType)) ∈ lw_all := lw_g (lw_at lw_m3 221 rfl) rfl
theorem q789 : (Jvm.Cond.methodLink "java/util/AbstractSet" (1 : Nat) ({ cls := "java/util/AbstractCollection", name := "<init>", desc := "()V" } : Jvm.MethodName)) ∈ lw_all := lw_g (lw_at lw_m3 222 rfl) rfl
/-! java/util/HashSet -/
set_option maxRecDepth 100000
def RJ18 : String := "java/util/HashSet"
abbrev cJ18_init : ByteArray := prog_53_method_5_code
def yJ18_init : MethodName := ⟨RJ18, "<init>", "(IFZ)V"⟩
def dkwJ18_init_0 : List UInt8 := [42, 183, 0, 1, 42, 187, 0, 42, 89, 27, 36, 183, 0, 44, 181, 0, 10, 177]
abbrev dktJ18_init_0 : List UInt8 := dkwJ18_init_0 ++ []
theorem dksJ18_init_0 : cJ18_init.data.toList.drop 0 = dktJ18_init_0 := by decide +kernel
theorem dJ18_init_0 : decode cJ18_init 0 = .ok (.aload_n 0, 1) := dk_42 (dk_at dksJ18_init_0 0 rfl rfl)
theorem dJ18_init_1 : decode cJ18_init 1 = .ok (.invokespecial 1, 3) := dk_183 0 1 (dk_at dksJ18_init_0 1 rfl rfl)
theorem dJ18_init_4 : decode cJ18_init 4 = .ok (.aload_n 0, 1) := dk_42 (dk_at dksJ18_init_0 4 rfl rfl)
theorem dJ18_init_5 : decode cJ18_init 5 = .ok (.new 42, 3) := dk_187 0 42 (dk_at dksJ18_init_0 5 rfl rfl)
theorem dJ18_init_8 : decode cJ18_init 8 = .ok (.dup, 1) := dk_89 (dk_at dksJ18_init_0 8 rfl rfl)
theorem dJ18_init_9 : decode cJ18_init 9 = .ok (.iload_n 1, 1) := dk_27 (dk_at dksJ18_init_0 9 rfl rfl)
theorem dJ18_init_10 : decode cJ18_init 10 = .ok (.fload_n 2, 1) := dk_36 (dk_at dksJ18_init_0 10 rfl rfl)
theorem dJ18_init_11 : decode cJ18_init 11 = .ok (.invokespecial 44, 3) := dk_183 0 44 (dk_at dksJ18_init_0 11 rfl rfl)
theorem dJ18_init_14 : decode cJ18_init 14 = .ok (.putfield 10, 3) := dk_181 0 10 (dk_at dksJ18_init_0 14 rfl rfl)
theorem dJ18_init_17 : decode cJ18_init 17 = .ok (.return_, 1) := dk_177 (dk_at dksJ18_init_0 17 rfl rfl)
abbrev cJ18_size : ByteArray := prog_53_method_7_code
def yJ18_size : MethodName := ⟨RJ18, "size", "()I"⟩
def dkwJ18_size_0 : List UInt8 := [42, 180, 0, 10, 182, 0, 55, 172]
abbrev dktJ18_size_0 : List UInt8 := dkwJ18_size_0 ++ []
theorem dksJ18_size_0 : cJ18_size.data.toList.drop 0 = dktJ18_size_0 := by decide +kernel
theorem dJ18_size_0 : decode cJ18_size 0 = .ok (.aload_n 0, 1) := dk_42 (dk_at dksJ18_size_0 0 rfl rfl)
theorem dJ18_size_1 : decode cJ18_size 1 = .ok (.getfield 10, 3) := dk_180 0 10 (dk_at dksJ18_size_0 1 rfl rfl)
theorem dJ18_size_4 : decode cJ18_size 4 = .ok (.invokevirtual 55, 3) := dk_182 0 55 (dk_at dksJ18_size_0 4 rfl rfl)
theorem dJ18_size_7 : decode cJ18_size 7 = .ok (.ireturn, 1) := dk_172 (dk_at dksJ18_size_0 7 rfl rfl)
abbrev cJ18_add : ByteArray := prog_53_method_10_code
def yJ18_add : MethodName := ⟨RJ18, "add", "(Ljava/lang/Object;)Z"⟩
def dkwJ18_add_0 : List UInt8 := [42, 180, 0, 10, 43, 178, 0, 64, 182, 0, 68, 199, 0, 7, 4, 167, 0, 4, 3, 172]
abbrev dktJ18_add_0 : List UInt8 := dkwJ18_add_0 ++ []
theorem dksJ18_add_0 : cJ18_add.data.toList.drop 0 = dktJ18_add_0 := by decide +kernel
theorem dJ18_add_0 : decode cJ18_add 0 = .ok (.aload_n 0, 1) := dk_42 (dk_at dksJ18_add_0 0 rfl rfl)
theorem dJ18_add_1 : decode cJ18_add 1 = .ok (.getfield 10, 3) := dk_180 0 10 (dk_at dksJ18_add_0 1 rfl rfl)
theorem dJ18_add_4 : decode cJ18_add 4 = .ok (.aload_n 1, 1) := dk_43 (dk_at dksJ18_add_0 4 rfl rfl)
theorem dJ18_add_5 : decode cJ18_add 5 = .ok (.getstatic 64, 3) := dk_178 0 64 (dk_at dksJ18_add_0 5 rfl rfl)
theorem dJ18_add_8 : decode cJ18_add 8 = .ok (.invokevirtual 68, 3) := dk_182 0 68 (dk_at dksJ18_add_0 8 rfl rfl)
theorem dJ18_add_11 : decode cJ18_add 11 = .ok (.ifnonnull 7, 3) := dk_199 0 7 (dk_at dksJ18_add_0 11 rfl rfl)
theorem dJ18_add_14 : decode cJ18_add 14 = .ok (.iconst 1, 1) := dk_4 (dk_at dksJ18_add_0 14 rfl rfl)
theorem dJ18_add_15 : decode cJ18_add 15 = .ok (.goto 4, 3) := dk_167 0 4 (dk_at dksJ18_add_0 15 rfl rfl)
theorem dJ18_add_18 : decode cJ18_add 18 = .ok (.iconst 0, 1) := dk_3 (dk_at dksJ18_add_0 18 rfl rfl)
theorem dJ18_add_19 : decode cJ18_add 19 = .ok (.ireturn, 1) := dk_172 (dk_at dksJ18_add_0 19 rfl rfl)
abbrev cJ18_contains : ByteArray := prog_53_method_9_code
def yJ18_contains : MethodName := ⟨RJ18, "contains", "(Ljava/lang/Object;)Z"⟩
def dkwJ18_contains_0 : List UInt8 := [42, 180, 0, 10, 43, 182, 0, 60, 172]
abbrev dktJ18_contains_0 : List UInt8 := dkwJ18_contains_0 ++ []
theorem dksJ18_contains_0 : cJ18_contains.data.toList.drop 0 = dktJ18_contains_0 := by decide +kernel
theorem dJ18_contains_0 : decode cJ18_contains 0 = .ok (.aload_n 0, 1) := dk_42 (dk_at dksJ18_contains_0 0 rfl rfl)
theorem dJ18_contains_1 : decode cJ18_contains 1 = .ok (.getfield 10, 3) := dk_180 0 10 (dk_at dksJ18_contains_0 1 rfl rfl)
theorem dJ18_contains_4 : decode cJ18_contains 4 = .ok (.aload_n 1, 1) := dk_43 (dk_at dksJ18_contains_0 4 rfl rfl)
theorem dJ18_contains_5 : decode cJ18_contains 5 = .ok (.invokevirtual 60, 3) := dk_182 0 60 (dk_at dksJ18_contains_0 5 rfl rfl)
theorem dJ18_contains_8 : decode cJ18_contains 8 = .ok (.ireturn, 1) := dk_172 (dk_at dksJ18_contains_0 8 rfl rfl)
abbrev cJ18_iterator : ByteArray := prog_53_method_6_code
def yJ18_iterator : MethodName := ⟨RJ18, "iterator", "()Ljava/util/Iterator;"⟩
def dkwJ18_iterator_0 : List UInt8 := [42, 180, 0, 10, 182, 0, 45, 185, 0, 49, 1, 0, 176]
abbrev dktJ18_iterator_0 : List UInt8 := dkwJ18_iterator_0 ++ []
theorem dksJ18_iterator_0 : cJ18_iterator.data.toList.drop 0 = dktJ18_iterator_0 := by decide +kernel
theorem dJ18_iterator_0 : decode cJ18_iterator 0 = .ok (.aload_n 0, 1) := dk_42 (dk_at dksJ18_iterator_0 0 rfl rfl)
theorem dJ18_iterator_1 : decode cJ18_iterator 1 = .ok (.getfield 10, 3) := dk_180 0 10 (dk_at dksJ18_iterator_0 1 rfl rfl)
theorem dJ18_iterator_4 : decode cJ18_iterator 4 = .ok (.invokevirtual 45, 3) := dk_182 0 45 (dk_at dksJ18_iterator_0 4 rfl rfl)
theorem dJ18_iterator_7 : decode cJ18_iterator 7 = .ok (.invokeinterface 49 1, 5) := by decide +kernel
theorem dJ18_iterator_12 : decode cJ18_iterator 12 = .ok (.areturn, 1) := dk_176 (dk_at dksJ18_iterator_0 12 rfl rfl)
theorem q113 : (Jvm.Cond.initialized "java/util/HashSet") ∈ lw_all := lw_g (lw_at lw_m1 26 rfl) rfl
theorem q784 : (Jvm.Cond.instanceMethod ({ cls := "java/util/HashSet", name := "<init>", desc := "(IFZ)V" } : Jvm.MethodName)) ∈ lw_all := lw_g (lw_at lw_m3 217 rfl) rfl
theorem q785 : (Jvm.Cond.code ({ cls := "java/util/HashSet", name := "<init>", desc := "(IFZ)V" } : Jvm.MethodName) prog_53_method_5_code (4 : Nat) (Option.none : Option Jvm.ClassFile.FieldType)) ∈ lw_all := lw_g (lw_at lw_m3 218 rfl) rfl
theorem q786 : (Jvm.Cond.methodLink "java/util/HashSet" (1 : Nat) ({ cls := "java/util/AbstractSet", name := "<init>", desc := "()V" } : Jvm.MethodName)) ∈ lw_all := lw_g (lw_at lw_m3 219 rfl) rfl
theorem q790 : (Jvm.Cond.classLink "java/util/HashSet" (42 : Nat) "java/util/LinkedHashMap") ∈ lw_all := lw_g (lw_at lw_m3 223 rfl) rfl
theorem q792 : (Jvm.Cond.methodLink "java/util/HashSet" (44 : Nat) ({ cls := "java/util/LinkedHashMap", name := "<init>", desc := "(IF)V" } : Jvm.MethodName)) ∈ lw_all := lw_g (lw_at lw_m3 225 rfl) rfl
theorem q862 : (Jvm.Cond.fieldLink "java/util/HashSet" (10 : Nat) "java/util/HashSet" "map" "Ljava/util/HashMap;") ∈ lw_all := lw_g (lw_at lw_m4 55 rfl) rfl
theorem q864 : (Jvm.Cond.soleField "java/util/HashSet" "map") ∈ lw_all := lw_g (lw_at lw_m4 57 rfl) rfl
theorem q946 : (Jvm.Cond.instanceMethod ({ cls := "java/util/HashSet", name := "size", desc := "()I" } : Jvm.MethodName)) ∈ lw_all := lw_g (lw_at lw_m4 139 rfl) rfl
theorem q947 : (Jvm.Cond.code ({ cls := "java/util/HashSet", name := "size", desc := "()I" } : Jvm.MethodName) prog_53_method_7_code (1 : Nat) (Option.some Jvm.ClassFile.FieldType.int)) ∈ lw_all := lw_g (lw_at lw_m4 140 rfl) rfl
theorem q948 : (Jvm.Cond.methodLink "java/util/HashSet" (55 : Nat) ({ cls := "java/util/HashMap", name := "size", desc := "()I" } : Jvm.MethodName)) ∈ lw_all := lw_g (lw_at lw_m4 141 rfl) rfl
theorem q966 : (Jvm.Cond.declares ({ cls := "java/util/HashSet", name := "add", desc := "(Ljava/lang/Object;)Z" } : Jvm.MethodName)) ∈ lw_tbl := lw_at lw_m4 159 rfl
theorem q968 : (Jvm.Cond.instanceMethod ({ cls := "java/util/HashSet", name := "add", desc := "(Ljava/lang/Object;)Z" } : Jvm.MethodName)) ∈ lw_all := lw_g (lw_at lw_m4 161 rfl) rfl
theorem q969 : (Jvm.Cond.code ({ cls := "java/util/HashSet", name := "add", desc := "(Ljava/lang/Object;)Z" } : Jvm.MethodName) prog_53_method_10_code (2 : Nat) (Option.some Jvm.ClassFile.FieldType.boolean)) ∈ lw_all := lw_g (lw_at lw_m4 162 rfl) rfl
theorem q970 : (Jvm.Cond.fieldLink "java/util/HashSet" (64 : Nat) "java/util/HashSet" "PRESENT" "Ljava/lang/Object;") ∈ lw_all := lw_g (lw_at lw_m4 163 rfl) rfl
theorem q971 : (Jvm.Cond.laysStatic "java/util/HashSet" "PRESENT" "Ljava/lang/Object;") ∈ lw_tbl := lw_at lw_m4 164 rfl
theorem q972 : (Jvm.Cond.methodLink "java/util/HashSet" (68 : Nat) ({ cls := "java/util/HashMap", name := "put", desc := "(Ljava/lang/Object;Ljava/lang/Object;)Ljava/lang/Object;" } : Jvm.MethodName)) ∈ lw_all := lw_g (lw_at lw_m4 165 rfl) rfl
theorem q1524 : (Jvm.Cond.declares ({ cls := "java/util/HashSet", name := "contains", desc := "(Ljava/lang/Object;)Z" } : Jvm.MethodName)) ∈ lw_tbl := lw_at lw_m6 237 rfl
theorem q1526 : (Jvm.Cond.instanceMethod ({ cls := "java/util/HashSet", name := "contains", desc := "(Ljava/lang/Object;)Z" } : Jvm.MethodName)) ∈ lw_all := lw_g (lw_at lw_m6 239 rfl) rfl
theorem q1527 : (Jvm.Cond.code ({ cls := "java/util/HashSet", name := "contains", desc := "(Ljava/lang/Object;)Z" } : Jvm.MethodName) prog_53_method_9_code (2 : Nat) (Option.some Jvm.ClassFile.FieldType.boolean)) ∈ lw_all := lw_g (lw_at lw_m7 0 rfl) rfl
theorem q1528 : (Jvm.Cond.methodLink "java/util/HashSet" (60 : Nat) ({ cls := "java/util/HashMap", name := "containsKey", desc := "(Ljava/lang/Object;)Z" } : Jvm.MethodName)) ∈ lw_all := lw_g (lw_at lw_m7 1 rfl) rfl
theorem q1938 : (Jvm.Cond.instanceMethod ({ cls := "java/util/HashSet", name := "iterator", desc := "()Ljava/util/Iterator;" } : Jvm.MethodName)) ∈ lw_all := lw_g (lw_at lw_m8 171 rfl) rfl
theorem q1939 : (Jvm.Cond.publicMethod ({ cls := "java/util/HashSet", name := "iterator", desc := "()Ljava/util/Iterator;" } : Jvm.MethodName)) ∈ lw_tbl := lw_at lw_m8 172 rfl
theorem q1940 : (Jvm.Cond.code ({ cls := "java/util/HashSet", name := "iterator", desc := "()Ljava/util/Iterator;" } : Jvm.MethodName) prog_53_method_6_code (1 : Nat) (Option.some (Jvm.ClassFile.FieldType.object "java/util/Iterator"))) ∈ lw_all := lw_g (lw_at lw_m8 173 rfl) rfl
theorem q1941 : (Jvm.Cond.methodLink "java/util/HashSet" (45 : Nat) ({ cls := "java/util/HashMap", name := "keySet", desc := "()Ljava/util/Set;" } : Jvm.MethodName)) ∈ lw_all := lw_g (lw_at lw_m8 174 rfl) rfl
theorem q1946 : (Jvm.Cond.interfaceEntry "java/util/HashSet" (49 : Nat)) ∈ lw_tbl := lw_at lw_m8 179 rfl
theorem q1947 : (Jvm.Cond.methodLink "java/util/HashSet" (49 : Nat) ({ cls := "java/util/Set", name := "iterator", desc := "()Ljava/util/Iterator;" } : Jvm.MethodName)) ∈ lw_all := lw_g (lw_at lw_m8 180 rfl) rfl
/-! java/util/LinkedHashSet -/
set_option maxRecDepth 100000
def RJ19 : String := "java/util/LinkedHashSet"
def TJ19 : u_T := fun k => match k with
  | _ => ("java/util/HashSet", "map", "Ljava/util/HashMap;", false)
def tyJ19 : Nat → FieldType := fun k => match k with
  | _ => .object "java/util/HashMap"
abbrev wsJ190 : List Cond := u_ws RJ19 TJ19 1
theorem nmJ19 : ∀ a, a < 1 → ∀ b, b < 1 → a ≠ b → (TJ19 a).2.1 ≠ (TJ19 b).2.1 := by decide +kernel
theorem tyJ19_ok : ∀ k, k < 1 → parseFieldDescriptor (TJ19 k).2.2.1 = some (tyJ19 k) := by decide +kernel
abbrev cJ19_init : ByteArray := prog_60_method_3_code
def yJ19_init : MethodName := ⟨RJ19, "<init>", "()V"⟩
def dkwJ19_init_0 : List UInt8 := [42, 16, 16, 18, 7, 4, 183, 0, 1, 177]
abbrev dktJ19_init_0 : List UInt8 := dkwJ19_init_0 ++ []
theorem dksJ19_init_0 : cJ19_init.data.toList.drop 0 = dktJ19_init_0 := by decide +kernel
theorem dJ19_init_0 : decode cJ19_init 0 = .ok (.aload_n 0, 1) := dk_42 (dk_at dksJ19_init_0 0 rfl rfl)
theorem dJ19_init_1 : decode cJ19_init 1 = .ok (.bipush 16, 2) := dk_16 16 (dk_at dksJ19_init_0 1 rfl rfl)
theorem dJ19_init_3 : decode cJ19_init 3 = .ok (.ldc 7, 2) := dk_18 7 (dk_at dksJ19_init_0 3 rfl rfl)
theorem dJ19_init_5 : decode cJ19_init 5 = .ok (.iconst 1, 1) := dk_4 (dk_at dksJ19_init_0 5 rfl rfl)
theorem dJ19_init_6 : decode cJ19_init 6 = .ok (.invokespecial 1, 3) := dk_183 0 1 (dk_at dksJ19_init_0 6 rfl rfl)
theorem dJ19_init_9 : decode cJ19_init 9 = .ok (.return_, 1) := dk_177 (dk_at dksJ19_init_0 9 rfl rfl)
theorem q114 : (Jvm.Cond.initialized "java/util/LinkedHashSet") ∈ lw_all := lw_g (lw_at lw_m1 27 rfl) rfl
theorem q482 : (Jvm.Cond.selects "java/util/LinkedHashSet" ({ cls := "java/lang/Object", name := "getClass", desc := "()Ljava/lang/Class;" } : Jvm.MethodName) ({ cls := "java/lang/Object", name := "getClass", desc := "()Ljava/lang/Class;" } : Jvm.MethodName)) ∈ lw_all := lw_g (lw_at lw_m2 155 rfl) rfl
theorem q778 : (Jvm.Cond.instantiable "java/util/LinkedHashSet" (1 : Nat)) ∈ lw_all := lw_g (lw_at lw_m3 211 rfl) rfl
theorem q780 : (Jvm.Cond.instanceMethod ({ cls := "java/util/LinkedHashSet", name := "<init>", desc := "()V" } : Jvm.MethodName)) ∈ lw_all := lw_g (lw_at lw_m3 213 rfl) rfl
theorem q781 : (Jvm.Cond.code ({ cls := "java/util/LinkedHashSet", name := "<init>", desc := "()V" } : Jvm.MethodName) prog_60_method_3_code (1 : Nat) (Option.none : Option Jvm.ClassFile.FieldType)) ∈ lw_all := lw_g (lw_at lw_m3 214 rfl) rfl
theorem q782 : (Jvm.Cond.constantFloat "java/util/LinkedHashSet" (7 : Nat) (1061158912 : UInt32)) ∈ lw_all := lw_g (lw_at lw_m3 215 rfl) rfl
theorem q783 : (Jvm.Cond.methodLink "java/util/LinkedHashSet" (1 : Nat) ({ cls := "java/util/HashSet", name := "<init>", desc := "(IFZ)V" } : Jvm.MethodName)) ∈ lw_all := lw_g (lw_at lw_m3 216 rfl) rfl
theorem q863 : (Jvm.Cond.lays "java/util/LinkedHashSet" "java/util/HashSet" "map" "Ljava/util/HashMap;") ∈ lw_all := lw_g (lw_at lw_m4 56 rfl) rfl
theorem q865 : (Jvm.Cond.superclass "java/util/LinkedHashSet" "java/util/HashSet") ∈ lw_all := lw_g (lw_at lw_m4 58 rfl) rfl
theorem q945 : (Jvm.Cond.selects "java/util/LinkedHashSet" ({ cls := "java/util/AbstractCollection", name := "size", desc := "()I" } : Jvm.MethodName) ({ cls := "java/util/HashSet", name := "size", desc := "()I" } : Jvm.MethodName)) ∈ lw_all := lw_g (lw_at lw_m4 138 rfl) rfl
theorem q965 : (Jvm.Cond.sameMethod "java/util/LinkedHashSet" "java/util/HashSet" "add" "(Ljava/lang/Object;)Z") ∈ lw_all := lw_g (lw_at lw_m4 158 rfl) rfl
theorem q967 : (Jvm.Cond.selects "java/util/LinkedHashSet" ({ cls := "java/util/LinkedHashSet", name := "add", desc := "(Ljava/lang/Object;)Z" } : Jvm.MethodName) ({ cls := "java/util/HashSet", name := "add", desc := "(Ljava/lang/Object;)Z" } : Jvm.MethodName)) ∈ lw_all := lw_g (lw_at lw_m4 160 rfl) rfl
theorem q1523 : (Jvm.Cond.sameMethod "java/util/LinkedHashSet" "java/util/HashSet" "contains" "(Ljava/lang/Object;)Z") ∈ lw_all := lw_g (lw_at lw_m6 236 rfl) rfl
theorem q1525 : (Jvm.Cond.selects "java/util/LinkedHashSet" ({ cls := "java/util/LinkedHashSet", name := "contains", desc := "(Ljava/lang/Object;)Z" } : Jvm.MethodName) ({ cls := "java/util/HashSet", name := "contains", desc := "(Ljava/lang/Object;)Z" } : Jvm.MethodName)) ∈ lw_all := lw_g (lw_at lw_m6 238 rfl) rfl
theorem q1935 : (Jvm.Cond.castable "java/util/LinkedHashSet" "java/util/Set") ∈ lw_tbl := lw_at lw_m8 168 rfl
theorem q1936 : (Jvm.Cond.selects "java/util/LinkedHashSet" ({ cls := "java/util/Set", name := "iterator", desc := "()Ljava/util/Iterator;" } : Jvm.MethodName) ({ cls := "java/util/HashSet", name := "iterator", desc := "()Ljava/util/Iterator;" } : Jvm.MethodName)) ∈ lw_all := lw_g (lw_at lw_m8 169 rfl) rfl
theorem q1937 : (Jvm.Cond.unhidden "java/util/LinkedHashSet" "iterator" "()Ljava/util/Iterator;") ∈ lw_tbl := lw_at lw_m8 170 rfl
theorem q2883 : (Jvm.Cond.castable "java/util/LinkedHashSet" "java/util/SequencedSet") ∈ lw_tbl := lw_at lw_m12 156 rfl
theorem q2898 : (Jvm.Cond.castable "java/util/LinkedHashSet" "java/lang/Object") ∈ lw_tbl := lw_at lw_m12 171 rfl
theorem in_J19 : ∀ w ∈ wsJ190, w ∈ lw_all := lw_in wsJ190 [863] (by decide +kernel) (by decide +kernel)
