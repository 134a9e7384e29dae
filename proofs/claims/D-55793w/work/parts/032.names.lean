/-! ParityMaze -/
set_option maxRecDepth 100000
def RX0 : String := "ParityMaze"
def TX0 : u_T := fun k => match k with
  | 0 => ("ParityMaze", "maze", "LParityMaze$Maze;", false)
  | 1 => ("ParityMaze", "saved", "LParityMaze$Maze;", false)
  | 2 => ("ParityMaze", "past", "Ljava/util/ArrayDeque;", true)
  | 3 => ("ParityMaze", "reason", "I", false)
  | 4 => ("ParityMaze", "detail", "I", false)
  | 5 => ("ParityMaze", "text", "Ljava/lang/StringBuilder;", true)
  | _ => ("ParityMaze", "line", "Ljava/lang/String;", false)
def tyX0 : Nat → FieldType := fun k => match k with
  | 0 => .object "ParityMaze$Maze"
  | 1 => .object "ParityMaze$Maze"
  | 2 => .object "java/util/ArrayDeque"
  | 3 => .int
  | 4 => .int
  | 5 => .object "java/lang/StringBuilder"
  | _ => .object "java/lang/String"
abbrev wsX00 : List Cond := u_ws RX0 TX0 7
theorem nmX0 : ∀ a, a < 7 → ∀ b, b < 7 → a ≠ b → (TX0 a).2.1 ≠ (TX0 b).2.1 := by decide +kernel
theorem tyX0_ok : ∀ k, k < 7 → parseFieldDescriptor (TX0 k).2.2.1 = some (tyX0 k) := by decide +kernel
abbrev cX0_init : ByteArray := prog_1_method_1_code
def yX0_init : MethodName := ⟨RX0, "<init>", "()V"⟩
def dkwX0_init_0 : List UInt8 := [42, 187, 0, 1, 89, 183, 0, 3, 183, 0, 7, 177]
abbrev dktX0_init_0 : List UInt8 := dkwX0_init_0 ++ []
theorem dksX0_init_0 : cX0_init.data.toList.drop 0 = dktX0_init_0 := by decide +kernel
theorem dX0_init_0 : decode cX0_init 0 = .ok (.aload_n 0, 1) := dk_42 (dk_at dksX0_init_0 0 rfl rfl)
theorem dX0_init_1 : decode cX0_init 1 = .ok (.new 1, 3) := dk_187 0 1 (dk_at dksX0_init_0 1 rfl rfl)
theorem dX0_init_4 : decode cX0_init 4 = .ok (.dup, 1) := dk_89 (dk_at dksX0_init_0 4 rfl rfl)
theorem dX0_init_5 : decode cX0_init 5 = .ok (.invokespecial 3, 3) := dk_183 0 3 (dk_at dksX0_init_0 5 rfl rfl)
theorem dX0_init_8 : decode cX0_init 8 = .ok (.invokespecial 7, 3) := dk_183 0 7 (dk_at dksX0_init_0 8 rfl rfl)
theorem dX0_init_11 : decode cX0_init 11 = .ok (.return_, 1) := dk_177 (dk_at dksX0_init_0 11 rfl rfl)
abbrev cX0_init_2 : ByteArray := prog_1_method_2_code
def yX0_init_2 : MethodName := ⟨RX0, "<init>", "(LParityMaze$Maze;)V"⟩
def dkwX0_init_2_1 : List UInt8 := [181, 0, 25, 42, 18, 29, 181, 0, 31, 42, 43, 181, 0, 35, 177]
abbrev dktX0_init_2_1 : List UInt8 := dkwX0_init_2_1 ++ []
def dkwX0_init_2_0 : List UInt8 := [42, 183, 0, 12, 42, 187, 0, 15, 89, 183, 0, 17, 181, 0, 18, 42, 187, 0, 22, 89, 183, 0, 24]
abbrev dktX0_init_2_0 : List UInt8 := dkwX0_init_2_0 ++ dktX0_init_2_1
theorem dksX0_init_2_0 : cX0_init_2.data.toList.drop 0 = dktX0_init_2_0 := by decide +kernel
theorem dksX0_init_2_1 : cX0_init_2.data.toList.drop 23 = dktX0_init_2_1 := dk_seg dksX0_init_2_0 23 rfl rfl
theorem dX0_init_2_0 : decode cX0_init_2 0 = .ok (.aload_n 0, 1) := dk_42 (dk_at dksX0_init_2_0 0 rfl rfl)
theorem dX0_init_2_1 : decode cX0_init_2 1 = .ok (.invokespecial 12, 3) := dk_183 0 12 (dk_at dksX0_init_2_0 1 rfl rfl)
theorem dX0_init_2_4 : decode cX0_init_2 4 = .ok (.aload_n 0, 1) := dk_42 (dk_at dksX0_init_2_0 4 rfl rfl)
theorem dX0_init_2_5 : decode cX0_init_2 5 = .ok (.new 15, 3) := dk_187 0 15 (dk_at dksX0_init_2_0 5 rfl rfl)
theorem dX0_init_2_8 : decode cX0_init_2 8 = .ok (.dup, 1) := dk_89 (dk_at dksX0_init_2_0 8 rfl rfl)
theorem dX0_init_2_9 : decode cX0_init_2 9 = .ok (.invokespecial 17, 3) := dk_183 0 17 (dk_at dksX0_init_2_0 9 rfl rfl)
theorem dX0_init_2_12 : decode cX0_init_2 12 = .ok (.putfield 18, 3) := dk_181 0 18 (dk_at dksX0_init_2_0 12 rfl rfl)
theorem dX0_init_2_15 : decode cX0_init_2 15 = .ok (.aload_n 0, 1) := dk_42 (dk_at dksX0_init_2_0 15 rfl rfl)
theorem dX0_init_2_16 : decode cX0_init_2 16 = .ok (.new 22, 3) := dk_187 0 22 (dk_at dksX0_init_2_0 16 rfl rfl)
theorem dX0_init_2_19 : decode cX0_init_2 19 = .ok (.dup, 1) := dk_89 (dk_at dksX0_init_2_0 19 rfl rfl)
theorem dX0_init_2_20 : decode cX0_init_2 20 = .ok (.invokespecial 24, 3) := dk_183 0 24 (dk_at dksX0_init_2_0 20 rfl rfl)
theorem dX0_init_2_23 : decode cX0_init_2 23 = .ok (.putfield 25, 3) := dk_181 0 25 (dk_at dksX0_init_2_1 0 rfl rfl)
theorem dX0_init_2_26 : decode cX0_init_2 26 = .ok (.aload_n 0, 1) := dk_42 (dk_at dksX0_init_2_1 3 rfl rfl)
theorem dX0_init_2_27 : decode cX0_init_2 27 = .ok (.ldc 29, 2) := dk_18 29 (dk_at dksX0_init_2_1 4 rfl rfl)
theorem dX0_init_2_29 : decode cX0_init_2 29 = .ok (.putfield 31, 3) := dk_181 0 31 (dk_at dksX0_init_2_1 6 rfl rfl)
theorem dX0_init_2_32 : decode cX0_init_2 32 = .ok (.aload_n 0, 1) := dk_42 (dk_at dksX0_init_2_1 9 rfl rfl)
theorem dX0_init_2_33 : decode cX0_init_2 33 = .ok (.aload_n 1, 1) := dk_43 (dk_at dksX0_init_2_1 10 rfl rfl)
theorem dX0_init_2_34 : decode cX0_init_2 34 = .ok (.putfield 35, 3) := dk_181 0 35 (dk_at dksX0_init_2_1 11 rfl rfl)
theorem dX0_init_2_37 : decode cX0_init_2 37 = .ok (.return_, 1) := dk_177 (dk_at dksX0_init_2_1 14 rfl rfl)
abbrev cX0_room : ByteArray := prog_1_method_13_code
def yX0_room : MethodName := ⟨RX0, "room", "(I)I"⟩
def dkwX0_room_1 : List UInt8 := [180, 0, 35, 27, 182, 0, 80, 182, 0, 84, 172, 78, 42, 45, 182, 0, 88, 172]
abbrev dktX0_room_1 : List UInt8 := dkwX0_room_1 ++ []
def dkwX0_room_0 : List UInt8 := [27, 184, 0, 73, 154, 0, 7, 17, 252, 12, 172, 42, 180, 0, 35, 182, 0, 76, 77, 42, 44, 42]
abbrev dktX0_room_0 : List UInt8 := dkwX0_room_0 ++ dktX0_room_1
theorem dksX0_room_0 : cX0_room.data.toList.drop 0 = dktX0_room_0 := by decide +kernel
theorem dksX0_room_1 : cX0_room.data.toList.drop 22 = dktX0_room_1 := dk_seg dksX0_room_0 22 rfl rfl
theorem dX0_room_0 : decode cX0_room 0 = .ok (.iload_n 1, 1) := dk_27 (dk_at dksX0_room_0 0 rfl rfl)
theorem dX0_room_1 : decode cX0_room 1 = .ok (.invokestatic 73, 3) := dk_184 0 73 (dk_at dksX0_room_0 1 rfl rfl)
theorem dX0_room_4 : decode cX0_room 4 = .ok (.ifCond .ne 7, 3) := dk_154 0 7 (dk_at dksX0_room_0 4 rfl rfl)
theorem dX0_room_7 : decode cX0_room 7 = .ok (.sipush (-1012), 3) := dk_17 252 12 (dk_at dksX0_room_0 7 rfl rfl)
theorem dX0_room_10 : decode cX0_room 10 = .ok (.ireturn, 1) := dk_172 (dk_at dksX0_room_0 10 rfl rfl)
theorem dX0_room_11 : decode cX0_room 11 = .ok (.aload_n 0, 1) := dk_42 (dk_at dksX0_room_0 11 rfl rfl)
theorem dX0_room_12 : decode cX0_room 12 = .ok (.getfield 35, 3) := dk_180 0 35 (dk_at dksX0_room_0 12 rfl rfl)
theorem dX0_room_15 : decode cX0_room 15 = .ok (.invokevirtual 76, 3) := dk_182 0 76 (dk_at dksX0_room_0 15 rfl rfl)
theorem dX0_room_18 : decode cX0_room 18 = .ok (.astore_n 2, 1) := dk_77 (dk_at dksX0_room_0 18 rfl rfl)
theorem dX0_room_19 : decode cX0_room 19 = .ok (.aload_n 0, 1) := dk_42 (dk_at dksX0_room_0 19 rfl rfl)
theorem dX0_room_20 : decode cX0_room 20 = .ok (.aload_n 2, 1) := dk_44 (dk_at dksX0_room_0 20 rfl rfl)
theorem dX0_room_21 : decode cX0_room 21 = .ok (.aload_n 0, 1) := dk_42 (dk_at dksX0_room_0 21 rfl rfl)
theorem dX0_room_22 : decode cX0_room 22 = .ok (.getfield 35, 3) := dk_180 0 35 (dk_at dksX0_room_1 0 rfl rfl)
theorem dX0_room_25 : decode cX0_room 25 = .ok (.iload_n 1, 1) := dk_27 (dk_at dksX0_room_1 3 rfl rfl)
theorem dX0_room_26 : decode cX0_room 26 = .ok (.invokevirtual 80, 3) := dk_182 0 80 (dk_at dksX0_room_1 4 rfl rfl)
theorem dX0_room_29 : decode cX0_room 29 = .ok (.invokevirtual 84, 3) := dk_182 0 84 (dk_at dksX0_room_1 7 rfl rfl)
theorem dX0_room_32 : decode cX0_room 32 = .ok (.ireturn, 1) := dk_172 (dk_at dksX0_room_1 10 rfl rfl)
theorem dX0_room_33 : decode cX0_room 33 = .ok (.astore_n 3, 1) := dk_78 (dk_at dksX0_room_1 11 rfl rfl)
theorem dX0_room_34 : decode cX0_room 34 = .ok (.aload_n 0, 1) := dk_42 (dk_at dksX0_room_1 12 rfl rfl)
theorem dX0_room_35 : decode cX0_room 35 = .ok (.aload_n 3, 1) := dk_45 (dk_at dksX0_room_1 13 rfl rfl)
theorem dX0_room_36 : decode cX0_room 36 = .ok (.invokevirtual 88, 3) := dk_182 0 88 (dk_at dksX0_room_1 14 rfl rfl)
theorem dX0_room_39 : decode cX0_room 39 = .ok (.ireturn, 1) := dk_172 (dk_at dksX0_room_1 17 rfl rfl)
abbrev cX0_isOil : ByteArray := prog_1_method_7_code
def yX0_isOil : MethodName := ⟨RX0, "isOil", "(I)Z"⟩
def dkwX0_isOil_0 : List UInt8 := [26, 3, 16, 50, 184, 0, 39, 172]
abbrev dktX0_isOil_0 : List UInt8 := dkwX0_isOil_0 ++ []
theorem dksX0_isOil_0 : cX0_isOil.data.toList.drop 0 = dktX0_isOil_0 := by decide +kernel
theorem dX0_isOil_0 : decode cX0_isOil 0 = .ok (.iload_n 0, 1) := dk_26 (dk_at dksX0_isOil_0 0 rfl rfl)
theorem dX0_isOil_1 : decode cX0_isOil 1 = .ok (.iconst 0, 1) := dk_3 (dk_at dksX0_isOil_0 1 rfl rfl)
theorem dX0_isOil_2 : decode cX0_isOil 2 = .ok (.bipush 50, 2) := dk_16 50 (dk_at dksX0_isOil_0 2 rfl rfl)
theorem dX0_isOil_4 : decode cX0_isOil 4 = .ok (.invokestatic 39, 3) := dk_184 0 39 (dk_at dksX0_isOil_0 4 rfl rfl)
theorem dX0_isOil_7 : decode cX0_isOil 7 = .ok (.ireturn, 1) := dk_172 (dk_at dksX0_isOil_0 7 rfl rfl)
abbrev cX0_isIn : ByteArray := prog_1_method_3_code
def yX0_isIn : MethodName := ⟨RX0, "isIn", "(III)Z"⟩
def dkwX0_isIn_0 : List UInt8 := [26, 27, 161, 0, 12, 26, 28, 163, 0, 7, 4, 167, 0, 4, 3, 172]
abbrev dktX0_isIn_0 : List UInt8 := dkwX0_isIn_0 ++ []
theorem dksX0_isIn_0 : cX0_isIn.data.toList.drop 0 = dktX0_isIn_0 := by decide +kernel
theorem dX0_isIn_0 : decode cX0_isIn 0 = .ok (.iload_n 0, 1) := dk_26 (dk_at dksX0_isIn_0 0 rfl rfl)
theorem dX0_isIn_1 : decode cX0_isIn 1 = .ok (.iload_n 1, 1) := dk_27 (dk_at dksX0_isIn_0 1 rfl rfl)
theorem dX0_isIn_2 : decode cX0_isIn 2 = .ok (.if_icmp .lt 12, 3) := dk_161 0 12 (dk_at dksX0_isIn_0 2 rfl rfl)
theorem dX0_isIn_5 : decode cX0_isIn 5 = .ok (.iload_n 0, 1) := dk_26 (dk_at dksX0_isIn_0 5 rfl rfl)
theorem dX0_isIn_6 : decode cX0_isIn 6 = .ok (.iload_n 2, 1) := dk_28 (dk_at dksX0_isIn_0 6 rfl rfl)
theorem dX0_isIn_7 : decode cX0_isIn 7 = .ok (.if_icmp .gt 7, 3) := dk_163 0 7 (dk_at dksX0_isIn_0 7 rfl rfl)
theorem dX0_isIn_10 : decode cX0_isIn 10 = .ok (.iconst 1, 1) := dk_4 (dk_at dksX0_isIn_0 10 rfl rfl)
theorem dX0_isIn_11 : decode cX0_isIn 11 = .ok (.goto 4, 3) := dk_167 0 4 (dk_at dksX0_isIn_0 11 rfl rfl)
theorem dX0_isIn_14 : decode cX0_isIn 14 = .ok (.iconst 0, 1) := dk_3 (dk_at dksX0_isIn_0 14 rfl rfl)
theorem dX0_isIn_15 : decode cX0_isIn 15 = .ok (.ireturn, 1) := dk_172 (dk_at dksX0_isIn_0 15 rfl rfl)
abbrev cX0_refuse : ByteArray := prog_1_method_10_code
def yX0_refuse : MethodName := ⟨RX0, "refuse", "(ZII)V"⟩
def dkwX0_refuse_0 : List UInt8 := [26, 153, 0, 13, 187, 0, 47, 89, 27, 28, 183, 0, 49, 191, 177]
abbrev dktX0_refuse_0 : List UInt8 := dkwX0_refuse_0 ++ []
theorem dksX0_refuse_0 : cX0_refuse.data.toList.drop 0 = dktX0_refuse_0 := by decide +kernel
theorem dX0_refuse_0 : decode cX0_refuse 0 = .ok (.iload_n 0, 1) := dk_26 (dk_at dksX0_refuse_0 0 rfl rfl)
theorem dX0_refuse_1 : decode cX0_refuse 1 = .ok (.ifCond .eq 13, 3) := dk_153 0 13 (dk_at dksX0_refuse_0 1 rfl rfl)
theorem dX0_refuse_4 : decode cX0_refuse 4 = .ok (.new 47, 3) := dk_187 0 47 (dk_at dksX0_refuse_0 4 rfl rfl)
theorem dX0_refuse_7 : decode cX0_refuse 7 = .ok (.dup, 1) := dk_89 (dk_at dksX0_refuse_0 7 rfl rfl)
theorem dX0_refuse_8 : decode cX0_refuse 8 = .ok (.iload_n 1, 1) := dk_27 (dk_at dksX0_refuse_0 8 rfl rfl)
theorem dX0_refuse_9 : decode cX0_refuse 9 = .ok (.iload_n 2, 1) := dk_28 (dk_at dksX0_refuse_0 9 rfl rfl)
theorem dX0_refuse_10 : decode cX0_refuse 10 = .ok (.invokespecial 49, 3) := dk_183 0 49 (dk_at dksX0_refuse_0 10 rfl rfl)
theorem dX0_refuse_13 : decode cX0_refuse 13 = .ok (.athrow, 1) := dk_191 (dk_at dksX0_refuse_0 13 rfl rfl)
theorem dX0_refuse_14 : decode cX0_refuse 14 = .ok (.return_, 1) := dk_177 (dk_at dksX0_refuse_0 14 rfl rfl)
abbrev cX0_changed : ByteArray := prog_1_method_12_code
def yX0_changed : MethodName := ⟨RX0, "changed", "(LParityMaze$Maze;I)I"⟩
def dkwX0_changed_1 : List UInt8 := [182, 0, 69, 87, 28, 172]
abbrev dktX0_changed_1 : List UInt8 := dkwX0_changed_1 ++ []
def dkwX0_changed_0 : List UInt8 := [42, 180, 0, 18, 43, 182, 0, 61, 42, 180, 0, 18, 182, 0, 65, 16, 8, 164, 0, 11, 42, 180, 0, 18]
abbrev dktX0_changed_0 : List UInt8 := dkwX0_changed_0 ++ dktX0_changed_1
theorem dksX0_changed_0 : cX0_changed.data.toList.drop 0 = dktX0_changed_0 := by decide +kernel
theorem dksX0_changed_1 : cX0_changed.data.toList.drop 24 = dktX0_changed_1 := dk_seg dksX0_changed_0 24 rfl rfl
theorem dX0_changed_0 : decode cX0_changed 0 = .ok (.aload_n 0, 1) := dk_42 (dk_at dksX0_changed_0 0 rfl rfl)
theorem dX0_changed_1 : decode cX0_changed 1 = .ok (.getfield 18, 3) := dk_180 0 18 (dk_at dksX0_changed_0 1 rfl rfl)
theorem dX0_changed_4 : decode cX0_changed 4 = .ok (.aload_n 1, 1) := dk_43 (dk_at dksX0_changed_0 4 rfl rfl)
theorem dX0_changed_5 : decode cX0_changed 5 = .ok (.invokevirtual 61, 3) := dk_182 0 61 (dk_at dksX0_changed_0 5 rfl rfl)
theorem dX0_changed_8 : decode cX0_changed 8 = .ok (.aload_n 0, 1) := dk_42 (dk_at dksX0_changed_0 8 rfl rfl)
theorem dX0_changed_9 : decode cX0_changed 9 = .ok (.getfield 18, 3) := dk_180 0 18 (dk_at dksX0_changed_0 9 rfl rfl)
theorem dX0_changed_12 : decode cX0_changed 12 = .ok (.invokevirtual 65, 3) := dk_182 0 65 (dk_at dksX0_changed_0 12 rfl rfl)
theorem dX0_changed_15 : decode cX0_changed 15 = .ok (.bipush 8, 2) := dk_16 8 (dk_at dksX0_changed_0 15 rfl rfl)
theorem dX0_changed_17 : decode cX0_changed 17 = .ok (.if_icmp .le 11, 3) := dk_164 0 11 (dk_at dksX0_changed_0 17 rfl rfl)
theorem dX0_changed_20 : decode cX0_changed 20 = .ok (.aload_n 0, 1) := dk_42 (dk_at dksX0_changed_0 20 rfl rfl)
theorem dX0_changed_21 : decode cX0_changed 21 = .ok (.getfield 18, 3) := dk_180 0 18 (dk_at dksX0_changed_0 21 rfl rfl)
theorem dX0_changed_24 : decode cX0_changed 24 = .ok (.invokevirtual 69, 3) := dk_182 0 69 (dk_at dksX0_changed_1 0 rfl rfl)
theorem dX0_changed_27 : decode cX0_changed 27 = .ok (.pop, 1) := dk_87 (dk_at dksX0_changed_1 3 rfl rfl)
theorem dX0_changed_28 : decode cX0_changed 28 = .ok (.iload_n 2, 1) := dk_28 (dk_at dksX0_changed_1 4 rfl rfl)
theorem dX0_changed_29 : decode cX0_changed 29 = .ok (.ireturn, 1) := dk_172 (dk_at dksX0_changed_1 5 rfl rfl)
abbrev cX0_refused : ByteArray := prog_1_method_11_code
def yX0_refused : MethodName := ⟨RX0, "refused", "(LParityMaze$Refused;)I"⟩
def dkwX0_refused_0 : List UInt8 := [42, 43, 180, 0, 52, 181, 0, 56, 42, 43, 180, 0, 57, 181, 0, 60, 17, 252, 10, 172]
abbrev dktX0_refused_0 : List UInt8 := dkwX0_refused_0 ++ []
theorem dksX0_refused_0 : cX0_refused.data.toList.drop 0 = dktX0_refused_0 := by decide +kernel
theorem dX0_refused_0 : decode cX0_refused 0 = .ok (.aload_n 0, 1) := dk_42 (dk_at dksX0_refused_0 0 rfl rfl)
theorem dX0_refused_1 : decode cX0_refused 1 = .ok (.aload_n 1, 1) := dk_43 (dk_at dksX0_refused_0 1 rfl rfl)
theorem dX0_refused_2 : decode cX0_refused 2 = .ok (.getfield 52, 3) := dk_180 0 52 (dk_at dksX0_refused_0 2 rfl rfl)
theorem dX0_refused_5 : decode cX0_refused 5 = .ok (.putfield 56, 3) := dk_181 0 56 (dk_at dksX0_refused_0 5 rfl rfl)
theorem dX0_refused_8 : decode cX0_refused 8 = .ok (.aload_n 0, 1) := dk_42 (dk_at dksX0_refused_0 8 rfl rfl)
theorem dX0_refused_9 : decode cX0_refused 9 = .ok (.aload_n 1, 1) := dk_43 (dk_at dksX0_refused_0 9 rfl rfl)
theorem dX0_refused_10 : decode cX0_refused 10 = .ok (.getfield 57, 3) := dk_180 0 57 (dk_at dksX0_refused_0 10 rfl rfl)
theorem dX0_refused_13 : decode cX0_refused 13 = .ok (.putfield 60, 3) := dk_181 0 60 (dk_at dksX0_refused_0 13 rfl rfl)
theorem dX0_refused_16 : decode cX0_refused 16 = .ok (.sipush (-1014), 3) := dk_17 252 10 (dk_at dksX0_refused_0 16 rfl rfl)
theorem dX0_refused_19 : decode cX0_refused 19 = .ok (.ireturn, 1) := dk_172 (dk_at dksX0_refused_0 19 rfl rfl)
abbrev cX0_door : ByteArray := prog_1_method_14_code
def yX0_door : MethodName := ⟨RX0, "door", "(IIII)I"⟩
def dkwX0_door_3 : List UInt8 := [172]
abbrev dktX0_door_3 : List UInt8 := dkwX0_door_3 ++ []
def dkwX0_door_2 : List UInt8 := [42, 180, 0, 35, 27, 28, 29, 21, 4, 182, 0, 102, 182, 0, 84, 172, 58, 6, 42, 25, 6, 182, 0, 88]
abbrev dktX0_door_2 : List UInt8 := dkwX0_door_2 ++ dktX0_door_3
def dkwX0_door_1 : List UInt8 := [21, 4, 184, 0, 99, 154, 0, 7, 17, 252, 12, 172, 42, 180, 0, 35, 182, 0, 76, 58, 5, 42, 25, 5]
abbrev dktX0_door_1 : List UInt8 := dkwX0_door_1 ++ dktX0_door_2
def dkwX0_door_0 : List UInt8 := [42, 180, 0, 35, 27, 28, 182, 0, 92, 154, 0, 7, 17, 252, 13, 172, 29, 184, 0, 96, 153, 0, 11]
abbrev dktX0_door_0 : List UInt8 := dkwX0_door_0 ++ dktX0_door_1
theorem dksX0_door_0 : cX0_door.data.toList.drop 0 = dktX0_door_0 := by decide +kernel
theorem dksX0_door_1 : cX0_door.data.toList.drop 23 = dktX0_door_1 := dk_seg dksX0_door_0 23 rfl rfl
theorem dksX0_door_2 : cX0_door.data.toList.drop 47 = dktX0_door_2 := dk_seg dksX0_door_1 24 rfl rfl
theorem dksX0_door_3 : cX0_door.data.toList.drop 71 = dktX0_door_3 := dk_seg dksX0_door_2 24 rfl rfl
theorem dX0_door_0 : decode cX0_door 0 = .ok (.aload_n 0, 1) := dk_42 (dk_at dksX0_door_0 0 rfl rfl)
theorem dX0_door_1 : decode cX0_door 1 = .ok (.getfield 35, 3) := dk_180 0 35 (dk_at dksX0_door_0 1 rfl rfl)
theorem dX0_door_4 : decode cX0_door 4 = .ok (.iload_n 1, 1) := dk_27 (dk_at dksX0_door_0 4 rfl rfl)
theorem dX0_door_5 : decode cX0_door 5 = .ok (.iload_n 2, 1) := dk_28 (dk_at dksX0_door_0 5 rfl rfl)
theorem dX0_door_6 : decode cX0_door 6 = .ok (.invokevirtual 92, 3) := dk_182 0 92 (dk_at dksX0_door_0 6 rfl rfl)
theorem dX0_door_9 : decode cX0_door 9 = .ok (.ifCond .ne 7, 3) := dk_154 0 7 (dk_at dksX0_door_0 9 rfl rfl)
theorem dX0_door_12 : decode cX0_door 12 = .ok (.sipush (-1011), 3) := dk_17 252 13 (dk_at dksX0_door_0 12 rfl rfl)
theorem dX0_door_15 : decode cX0_door 15 = .ok (.ireturn, 1) := dk_172 (dk_at dksX0_door_0 15 rfl rfl)
theorem dX0_door_16 : decode cX0_door 16 = .ok (.iload_n 3, 1) := dk_29 (dk_at dksX0_door_0 16 rfl rfl)
theorem dX0_door_17 : decode cX0_door 17 = .ok (.invokestatic 96, 3) := dk_184 0 96 (dk_at dksX0_door_0 17 rfl rfl)
theorem dX0_door_20 : decode cX0_door 20 = .ok (.ifCond .eq 11, 3) := dk_153 0 11 (dk_at dksX0_door_0 20 rfl rfl)
theorem dX0_door_23 : decode cX0_door 23 = .ok (.iload 4, 2) := dk_21 4 (dk_at dksX0_door_1 0 rfl rfl)
theorem dX0_door_25 : decode cX0_door 25 = .ok (.invokestatic 99, 3) := dk_184 0 99 (dk_at dksX0_door_1 2 rfl rfl)
theorem dX0_door_28 : decode cX0_door 28 = .ok (.ifCond .ne 7, 3) := dk_154 0 7 (dk_at dksX0_door_1 5 rfl rfl)
theorem dX0_door_31 : decode cX0_door 31 = .ok (.sipush (-1012), 3) := dk_17 252 12 (dk_at dksX0_door_1 8 rfl rfl)
theorem dX0_door_34 : decode cX0_door 34 = .ok (.ireturn, 1) := dk_172 (dk_at dksX0_door_1 11 rfl rfl)
theorem dX0_door_35 : decode cX0_door 35 = .ok (.aload_n 0, 1) := dk_42 (dk_at dksX0_door_1 12 rfl rfl)
theorem dX0_door_36 : decode cX0_door 36 = .ok (.getfield 35, 3) := dk_180 0 35 (dk_at dksX0_door_1 13 rfl rfl)
theorem dX0_door_39 : decode cX0_door 39 = .ok (.invokevirtual 76, 3) := dk_182 0 76 (dk_at dksX0_door_1 16 rfl rfl)
theorem dX0_door_42 : decode cX0_door 42 = .ok (.astore 5, 2) := dk_58 5 (dk_at dksX0_door_1 19 rfl rfl)
theorem dX0_door_44 : decode cX0_door 44 = .ok (.aload_n 0, 1) := dk_42 (dk_at dksX0_door_1 21 rfl rfl)
theorem dX0_door_45 : decode cX0_door 45 = .ok (.aload 5, 2) := dk_25 5 (dk_at dksX0_door_1 22 rfl rfl)
theorem dX0_door_47 : decode cX0_door 47 = .ok (.aload_n 0, 1) := dk_42 (dk_at dksX0_door_2 0 rfl rfl)
theorem dX0_door_48 : decode cX0_door 48 = .ok (.getfield 35, 3) := dk_180 0 35 (dk_at dksX0_door_2 1 rfl rfl)
theorem dX0_door_51 : decode cX0_door 51 = .ok (.iload_n 1, 1) := dk_27 (dk_at dksX0_door_2 4 rfl rfl)
theorem dX0_door_52 : decode cX0_door 52 = .ok (.iload_n 2, 1) := dk_28 (dk_at dksX0_door_2 5 rfl rfl)
theorem dX0_door_53 : decode cX0_door 53 = .ok (.iload_n 3, 1) := dk_29 (dk_at dksX0_door_2 6 rfl rfl)
theorem dX0_door_54 : decode cX0_door 54 = .ok (.iload 4, 2) := dk_21 4 (dk_at dksX0_door_2 7 rfl rfl)
theorem dX0_door_56 : decode cX0_door 56 = .ok (.invokevirtual 102, 3) := dk_182 0 102 (dk_at dksX0_door_2 9 rfl rfl)
theorem dX0_door_59 : decode cX0_door 59 = .ok (.invokevirtual 84, 3) := dk_182 0 84 (dk_at dksX0_door_2 12 rfl rfl)
theorem dX0_door_62 : decode cX0_door 62 = .ok (.ireturn, 1) := dk_172 (dk_at dksX0_door_2 15 rfl rfl)
theorem dX0_door_63 : decode cX0_door 63 = .ok (.astore 6, 2) := dk_58 6 (dk_at dksX0_door_2 16 rfl rfl)
theorem dX0_door_65 : decode cX0_door 65 = .ok (.aload_n 0, 1) := dk_42 (dk_at dksX0_door_2 18 rfl rfl)
theorem dX0_door_66 : decode cX0_door 66 = .ok (.aload 6, 2) := dk_25 6 (dk_at dksX0_door_2 19 rfl rfl)
theorem dX0_door_68 : decode cX0_door 68 = .ok (.invokevirtual 88, 3) := dk_182 0 88 (dk_at dksX0_door_2 21 rfl rfl)
theorem dX0_door_71 : decode cX0_door 71 = .ok (.ireturn, 1) := dk_172 (dk_at dksX0_door_3 0 rfl rfl)
abbrev cX0_isKind : ByteArray := prog_1_method_6_code
def yX0_isKind : MethodName := ⟨RX0, "isKind", "(I)Z"⟩
def dkwX0_isKind_0 : List UInt8 := [26, 3, 5, 184, 0, 39, 172]
abbrev dktX0_isKind_0 : List UInt8 := dkwX0_isKind_0 ++ []
theorem dksX0_isKind_0 : cX0_isKind.data.toList.drop 0 = dktX0_isKind_0 := by decide +kernel
theorem dX0_isKind_0 : decode cX0_isKind 0 = .ok (.iload_n 0, 1) := dk_26 (dk_at dksX0_isKind_0 0 rfl rfl)
theorem dX0_isKind_1 : decode cX0_isKind 1 = .ok (.iconst 0, 1) := dk_3 (dk_at dksX0_isKind_0 1 rfl rfl)
theorem dX0_isKind_2 : decode cX0_isKind 2 = .ok (.iconst 2, 1) := dk_5 (dk_at dksX0_isKind_0 2 rfl rfl)
theorem dX0_isKind_3 : decode cX0_isKind 3 = .ok (.invokestatic 39, 3) := dk_184 0 39 (dk_at dksX0_isKind_0 3 rfl rfl)
theorem dX0_isKind_6 : decode cX0_isKind 6 = .ok (.ireturn, 1) := dk_172 (dk_at dksX0_isKind_0 6 rfl rfl)
abbrev cX0_isLock : ByteArray := prog_1_method_5_code
def yX0_isLock : MethodName := ⟨RX0, "isLock", "(I)Z"⟩
def dkwX0_isLock_0 : List UInt8 := [26, 2, 159, 0, 10, 26, 184, 0, 43, 153, 0, 7, 4, 167, 0, 4, 3, 172]
abbrev dktX0_isLock_0 : List UInt8 := dkwX0_isLock_0 ++ []
theorem dksX0_isLock_0 : cX0_isLock.data.toList.drop 0 = dktX0_isLock_0 := by decide +kernel
theorem dX0_isLock_0 : decode cX0_isLock 0 = .ok (.iload_n 0, 1) := dk_26 (dk_at dksX0_isLock_0 0 rfl rfl)
theorem dX0_isLock_1 : decode cX0_isLock 1 = .ok (.iconst (-1), 1) := dk_2 (dk_at dksX0_isLock_0 1 rfl rfl)
theorem dX0_isLock_2 : decode cX0_isLock 2 = .ok (.if_icmp .eq 10, 3) := dk_159 0 10 (dk_at dksX0_isLock_0 2 rfl rfl)
theorem dX0_isLock_5 : decode cX0_isLock 5 = .ok (.iload_n 0, 1) := dk_26 (dk_at dksX0_isLock_0 5 rfl rfl)
theorem dX0_isLock_6 : decode cX0_isLock 6 = .ok (.invokestatic 43, 3) := dk_184 0 43 (dk_at dksX0_isLock_0 6 rfl rfl)
theorem dX0_isLock_9 : decode cX0_isLock 9 = .ok (.ifCond .eq 7, 3) := dk_153 0 7 (dk_at dksX0_isLock_0 9 rfl rfl)
theorem dX0_isLock_12 : decode cX0_isLock 12 = .ok (.iconst 1, 1) := dk_4 (dk_at dksX0_isLock_0 12 rfl rfl)
theorem dX0_isLock_13 : decode cX0_isLock 13 = .ok (.goto 4, 3) := dk_167 0 4 (dk_at dksX0_isLock_0 13 rfl rfl)
theorem dX0_isLock_16 : decode cX0_isLock 16 = .ok (.iconst 0, 1) := dk_3 (dk_at dksX0_isLock_0 16 rfl rfl)
theorem dX0_isLock_17 : decode cX0_isLock 17 = .ok (.ireturn, 1) := dk_172 (dk_at dksX0_isLock_0 17 rfl rfl)
abbrev cX0_isColour : ByteArray := prog_1_method_4_code
def yX0_isColour : MethodName := ⟨RX0, "isColour", "(I)Z"⟩
def dkwX0_isColour_0 : List UInt8 := [26, 3, 5, 184, 0, 39, 172]
abbrev dktX0_isColour_0 : List UInt8 := dkwX0_isColour_0 ++ []
theorem dksX0_isColour_0 : cX0_isColour.data.toList.drop 0 = dktX0_isColour_0 := by decide +kernel
theorem dX0_isColour_0 : decode cX0_isColour 0 = .ok (.iload_n 0, 1) := dk_26 (dk_at dksX0_isColour_0 0 rfl rfl)
theorem dX0_isColour_1 : decode cX0_isColour 1 = .ok (.iconst 0, 1) := dk_3 (dk_at dksX0_isColour_0 1 rfl rfl)
theorem dX0_isColour_2 : decode cX0_isColour 2 = .ok (.iconst 2, 1) := dk_5 (dk_at dksX0_isColour_0 2 rfl rfl)
theorem dX0_isColour_3 : decode cX0_isColour 3 = .ok (.invokestatic 39, 3) := dk_184 0 39 (dk_at dksX0_isColour_0 3 rfl rfl)
theorem dX0_isColour_6 : decode cX0_isColour 6 = .ok (.ireturn, 1) := dk_172 (dk_at dksX0_isColour_0 6 rfl rfl)
abbrev cX0_key : ByteArray := prog_1_method_15_code
def yX0_key : MethodName := ⟨RX0, "key", "(II)I"⟩
def dkwX0_key_2 : List UInt8 := [182, 0, 84, 172, 58, 4, 42, 25, 4, 182, 0, 88, 172]
abbrev dktX0_key_2 : List UInt8 := dkwX0_key_2 ++ []
def dkwX0_key_1 : List UInt8 := [17, 252, 12, 172, 42, 180, 0, 35, 182, 0, 76, 78, 42, 45, 42, 180, 0, 35, 27, 28, 182, 0, 109]
abbrev dktX0_key_1 : List UInt8 := dkwX0_key_1 ++ dktX0_key_2
def dkwX0_key_0 : List UInt8 := [42, 180, 0, 35, 27, 182, 0, 106, 154, 0, 7, 17, 252, 13, 172, 28, 184, 0, 43, 154, 0, 7]
abbrev dktX0_key_0 : List UInt8 := dkwX0_key_0 ++ dktX0_key_1
theorem dksX0_key_0 : cX0_key.data.toList.drop 0 = dktX0_key_0 := by decide +kernel
theorem dksX0_key_1 : cX0_key.data.toList.drop 22 = dktX0_key_1 := dk_seg dksX0_key_0 22 rfl rfl
theorem dksX0_key_2 : cX0_key.data.toList.drop 45 = dktX0_key_2 := dk_seg dksX0_key_1 23 rfl rfl
theorem dX0_key_0 : decode cX0_key 0 = .ok (.aload_n 0, 1) := dk_42 (dk_at dksX0_key_0 0 rfl rfl)
theorem dX0_key_1 : decode cX0_key 1 = .ok (.getfield 35, 3) := dk_180 0 35 (dk_at dksX0_key_0 1 rfl rfl)
theorem dX0_key_4 : decode cX0_key 4 = .ok (.iload_n 1, 1) := dk_27 (dk_at dksX0_key_0 4 rfl rfl)
theorem dX0_key_5 : decode cX0_key 5 = .ok (.invokevirtual 106, 3) := dk_182 0 106 (dk_at dksX0_key_0 5 rfl rfl)
theorem dX0_key_8 : decode cX0_key 8 = .ok (.ifCond .ne 7, 3) := dk_154 0 7 (dk_at dksX0_key_0 8 rfl rfl)
theorem dX0_key_11 : decode cX0_key 11 = .ok (.sipush (-1011), 3) := dk_17 252 13 (dk_at dksX0_key_0 11 rfl rfl)
theorem dX0_key_14 : decode cX0_key 14 = .ok (.ireturn, 1) := dk_172 (dk_at dksX0_key_0 14 rfl rfl)
theorem dX0_key_15 : decode cX0_key 15 = .ok (.iload_n 2, 1) := dk_28 (dk_at dksX0_key_0 15 rfl rfl)
theorem dX0_key_16 : decode cX0_key 16 = .ok (.invokestatic 43, 3) := dk_184 0 43 (dk_at dksX0_key_0 16 rfl rfl)
theorem dX0_key_19 : decode cX0_key 19 = .ok (.ifCond .ne 7, 3) := dk_154 0 7 (dk_at dksX0_key_0 19 rfl rfl)
theorem dX0_key_22 : decode cX0_key 22 = .ok (.sipush (-1012), 3) := dk_17 252 12 (dk_at dksX0_key_1 0 rfl rfl)
theorem dX0_key_25 : decode cX0_key 25 = .ok (.ireturn, 1) := dk_172 (dk_at dksX0_key_1 3 rfl rfl)
theorem dX0_key_26 : decode cX0_key 26 = .ok (.aload_n 0, 1) := dk_42 (dk_at dksX0_key_1 4 rfl rfl)
theorem dX0_key_27 : decode cX0_key 27 = .ok (.getfield 35, 3) := dk_180 0 35 (dk_at dksX0_key_1 5 rfl rfl)
theorem dX0_key_30 : decode cX0_key 30 = .ok (.invokevirtual 76, 3) := dk_182 0 76 (dk_at dksX0_key_1 8 rfl rfl)
theorem dX0_key_33 : decode cX0_key 33 = .ok (.astore_n 3, 1) := dk_78 (dk_at dksX0_key_1 11 rfl rfl)
theorem dX0_key_34 : decode cX0_key 34 = .ok (.aload_n 0, 1) := dk_42 (dk_at dksX0_key_1 12 rfl rfl)
theorem dX0_key_35 : decode cX0_key 35 = .ok (.aload_n 3, 1) := dk_45 (dk_at dksX0_key_1 13 rfl rfl)
theorem dX0_key_36 : decode cX0_key 36 = .ok (.aload_n 0, 1) := dk_42 (dk_at dksX0_key_1 14 rfl rfl)
theorem dX0_key_37 : decode cX0_key 37 = .ok (.getfield 35, 3) := dk_180 0 35 (dk_at dksX0_key_1 15 rfl rfl)
theorem dX0_key_40 : decode cX0_key 40 = .ok (.iload_n 1, 1) := dk_27 (dk_at dksX0_key_1 18 rfl rfl)
theorem dX0_key_41 : decode cX0_key 41 = .ok (.iload_n 2, 1) := dk_28 (dk_at dksX0_key_1 19 rfl rfl)
theorem dX0_key_42 : decode cX0_key 42 = .ok (.invokevirtual 109, 3) := dk_182 0 109 (dk_at dksX0_key_1 20 rfl rfl)
theorem dX0_key_45 : decode cX0_key 45 = .ok (.invokevirtual 84, 3) := dk_182 0 84 (dk_at dksX0_key_2 0 rfl rfl)
theorem dX0_key_48 : decode cX0_key 48 = .ok (.ireturn, 1) := dk_172 (dk_at dksX0_key_2 3 rfl rfl)
theorem dX0_key_49 : decode cX0_key 49 = .ok (.astore 4, 2) := dk_58 4 (dk_at dksX0_key_2 4 rfl rfl)
theorem dX0_key_51 : decode cX0_key 51 = .ok (.aload_n 0, 1) := dk_42 (dk_at dksX0_key_2 6 rfl rfl)
theorem dX0_key_52 : decode cX0_key 52 = .ok (.aload 4, 2) := dk_25 4 (dk_at dksX0_key_2 7 rfl rfl)
theorem dX0_key_54 : decode cX0_key 54 = .ok (.invokevirtual 88, 3) := dk_182 0 88 (dk_at dksX0_key_2 9 rfl rfl)
theorem dX0_key_57 : decode cX0_key 57 = .ok (.ireturn, 1) := dk_172 (dk_at dksX0_key_2 12 rfl rfl)
abbrev cX0_oil : ByteArray := prog_1_method_16_code
def yX0_oil : MethodName := ⟨RX0, "oil", "(II)I"⟩
def dkwX0_oil_2 : List UInt8 := [182, 0, 113, 182, 0, 84, 172, 58, 4, 42, 25, 4, 182, 0, 88, 172]
abbrev dktX0_oil_2 : List UInt8 := dkwX0_oil_2 ++ []
def dkwX0_oil_1 : List UInt8 := [154, 0, 7, 17, 252, 12, 172, 42, 180, 0, 35, 182, 0, 76, 78, 42, 45, 42, 180, 0, 35, 27, 28]
abbrev dktX0_oil_1 : List UInt8 := dkwX0_oil_1 ++ dktX0_oil_2
def dkwX0_oil_0 : List UInt8 := [42, 180, 0, 35, 27, 182, 0, 106, 154, 0, 7, 17, 252, 13, 172, 28, 4, 16, 50, 184, 0, 39]
abbrev dktX0_oil_0 : List UInt8 := dkwX0_oil_0 ++ dktX0_oil_1
theorem dksX0_oil_0 : cX0_oil.data.toList.drop 0 = dktX0_oil_0 := by decide +kernel
theorem dksX0_oil_1 : cX0_oil.data.toList.drop 22 = dktX0_oil_1 := dk_seg dksX0_oil_0 22 rfl rfl
theorem dksX0_oil_2 : cX0_oil.data.toList.drop 45 = dktX0_oil_2 := dk_seg dksX0_oil_1 23 rfl rfl
theorem dX0_oil_0 : decode cX0_oil 0 = .ok (.aload_n 0, 1) := dk_42 (dk_at dksX0_oil_0 0 rfl rfl)
theorem dX0_oil_1 : decode cX0_oil 1 = .ok (.getfield 35, 3) := dk_180 0 35 (dk_at dksX0_oil_0 1 rfl rfl)
theorem dX0_oil_4 : decode cX0_oil 4 = .ok (.iload_n 1, 1) := dk_27 (dk_at dksX0_oil_0 4 rfl rfl)
theorem dX0_oil_5 : decode cX0_oil 5 = .ok (.invokevirtual 106, 3) := dk_182 0 106 (dk_at dksX0_oil_0 5 rfl rfl)
theorem dX0_oil_8 : decode cX0_oil 8 = .ok (.ifCond .ne 7, 3) := dk_154 0 7 (dk_at dksX0_oil_0 8 rfl rfl)
theorem dX0_oil_11 : decode cX0_oil 11 = .ok (.sipush (-1011), 3) := dk_17 252 13 (dk_at dksX0_oil_0 11 rfl rfl)
theorem dX0_oil_14 : decode cX0_oil 14 = .ok (.ireturn, 1) := dk_172 (dk_at dksX0_oil_0 14 rfl rfl)
theorem dX0_oil_15 : decode cX0_oil 15 = .ok (.iload_n 2, 1) := dk_28 (dk_at dksX0_oil_0 15 rfl rfl)
theorem dX0_oil_16 : decode cX0_oil 16 = .ok (.iconst 1, 1) := dk_4 (dk_at dksX0_oil_0 16 rfl rfl)
theorem dX0_oil_17 : decode cX0_oil 17 = .ok (.bipush 50, 2) := dk_16 50 (dk_at dksX0_oil_0 17 rfl rfl)
theorem dX0_oil_19 : decode cX0_oil 19 = .ok (.invokestatic 39, 3) := dk_184 0 39 (dk_at dksX0_oil_0 19 rfl rfl)
theorem dX0_oil_22 : decode cX0_oil 22 = .ok (.ifCond .ne 7, 3) := dk_154 0 7 (dk_at dksX0_oil_1 0 rfl rfl)
theorem dX0_oil_25 : decode cX0_oil 25 = .ok (.sipush (-1012), 3) := dk_17 252 12 (dk_at dksX0_oil_1 3 rfl rfl)
theorem dX0_oil_28 : decode cX0_oil 28 = .ok (.ireturn, 1) := dk_172 (dk_at dksX0_oil_1 6 rfl rfl)
theorem dX0_oil_29 : decode cX0_oil 29 = .ok (.aload_n 0, 1) := dk_42 (dk_at dksX0_oil_1 7 rfl rfl)
theorem dX0_oil_30 : decode cX0_oil 30 = .ok (.getfield 35, 3) := dk_180 0 35 (dk_at dksX0_oil_1 8 rfl rfl)
theorem dX0_oil_33 : decode cX0_oil 33 = .ok (.invokevirtual 76, 3) := dk_182 0 76 (dk_at dksX0_oil_1 11 rfl rfl)
theorem dX0_oil_36 : decode cX0_oil 36 = .ok (.astore_n 3, 1) := dk_78 (dk_at dksX0_oil_1 14 rfl rfl)
theorem dX0_oil_37 : decode cX0_oil 37 = .ok (.aload_n 0, 1) := dk_42 (dk_at dksX0_oil_1 15 rfl rfl)
theorem dX0_oil_38 : decode cX0_oil 38 = .ok (.aload_n 3, 1) := dk_45 (dk_at dksX0_oil_1 16 rfl rfl)
theorem dX0_oil_39 : decode cX0_oil 39 = .ok (.aload_n 0, 1) := dk_42 (dk_at dksX0_oil_1 17 rfl rfl)
theorem dX0_oil_40 : decode cX0_oil 40 = .ok (.getfield 35, 3) := dk_180 0 35 (dk_at dksX0_oil_1 18 rfl rfl)
theorem dX0_oil_43 : decode cX0_oil 43 = .ok (.iload_n 1, 1) := dk_27 (dk_at dksX0_oil_1 21 rfl rfl)
theorem dX0_oil_44 : decode cX0_oil 44 = .ok (.iload_n 2, 1) := dk_28 (dk_at dksX0_oil_1 22 rfl rfl)
theorem dX0_oil_45 : decode cX0_oil 45 = .ok (.invokevirtual 113, 3) := dk_182 0 113 (dk_at dksX0_oil_2 0 rfl rfl)
theorem dX0_oil_48 : decode cX0_oil 48 = .ok (.invokevirtual 84, 3) := dk_182 0 84 (dk_at dksX0_oil_2 3 rfl rfl)
theorem dX0_oil_51 : decode cX0_oil 51 = .ok (.ireturn, 1) := dk_172 (dk_at dksX0_oil_2 6 rfl rfl)
theorem dX0_oil_52 : decode cX0_oil 52 = .ok (.astore 4, 2) := dk_58 4 (dk_at dksX0_oil_2 7 rfl rfl)
theorem dX0_oil_54 : decode cX0_oil 54 = .ok (.aload_n 0, 1) := dk_42 (dk_at dksX0_oil_2 9 rfl rfl)
theorem dX0_oil_55 : decode cX0_oil 55 = .ok (.aload 4, 2) := dk_25 4 (dk_at dksX0_oil_2 10 rfl rfl)
theorem dX0_oil_57 : decode cX0_oil 57 = .ok (.invokevirtual 88, 3) := dk_182 0 88 (dk_at dksX0_oil_2 12 rfl rfl)
theorem dX0_oil_60 : decode cX0_oil 60 = .ok (.ireturn, 1) := dk_172 (dk_at dksX0_oil_2 15 rfl rfl)
abbrev cX0_roomOf : ByteArray := prog_1_method_17_code
def yX0_roomOf : MethodName := ⟨RX0, "roomOf", "(II)I"⟩
def dkwX0_roomOf_1 : List UInt8 := [17, 252, 13, 172]
abbrev dktX0_roomOf_1 : List UInt8 := dkwX0_roomOf_1 ++ []
def dkwX0_roomOf_0 : List UInt8 := [42, 180, 0, 35, 27, 182, 0, 106, 153, 0, 15, 42, 180, 0, 35, 27, 28, 182, 0, 116, 167, 0, 6]
abbrev dktX0_roomOf_0 : List UInt8 := dkwX0_roomOf_0 ++ dktX0_roomOf_1
theorem dksX0_roomOf_0 : cX0_roomOf.data.toList.drop 0 = dktX0_roomOf_0 := by decide +kernel
theorem dksX0_roomOf_1 : cX0_roomOf.data.toList.drop 23 = dktX0_roomOf_1 := dk_seg dksX0_roomOf_0 23 rfl rfl
theorem dX0_roomOf_0 : decode cX0_roomOf 0 = .ok (.aload_n 0, 1) := dk_42 (dk_at dksX0_roomOf_0 0 rfl rfl)
theorem dX0_roomOf_1 : decode cX0_roomOf 1 = .ok (.getfield 35, 3) := dk_180 0 35 (dk_at dksX0_roomOf_0 1 rfl rfl)
theorem dX0_roomOf_4 : decode cX0_roomOf 4 = .ok (.iload_n 1, 1) := dk_27 (dk_at dksX0_roomOf_0 4 rfl rfl)
theorem dX0_roomOf_5 : decode cX0_roomOf 5 = .ok (.invokevirtual 106, 3) := dk_182 0 106 (dk_at dksX0_roomOf_0 5 rfl rfl)
theorem dX0_roomOf_8 : decode cX0_roomOf 8 = .ok (.ifCond .eq 15, 3) := dk_153 0 15 (dk_at dksX0_roomOf_0 8 rfl rfl)
theorem dX0_roomOf_11 : decode cX0_roomOf 11 = .ok (.aload_n 0, 1) := dk_42 (dk_at dksX0_roomOf_0 11 rfl rfl)
theorem dX0_roomOf_12 : decode cX0_roomOf 12 = .ok (.getfield 35, 3) := dk_180 0 35 (dk_at dksX0_roomOf_0 12 rfl rfl)
theorem dX0_roomOf_15 : decode cX0_roomOf 15 = .ok (.iload_n 1, 1) := dk_27 (dk_at dksX0_roomOf_0 15 rfl rfl)
theorem dX0_roomOf_16 : decode cX0_roomOf 16 = .ok (.iload_n 2, 1) := dk_28 (dk_at dksX0_roomOf_0 16 rfl rfl)
theorem dX0_roomOf_17 : decode cX0_roomOf 17 = .ok (.invokevirtual 116, 3) := dk_182 0 116 (dk_at dksX0_roomOf_0 17 rfl rfl)
theorem dX0_roomOf_20 : decode cX0_roomOf 20 = .ok (.goto 6, 3) := dk_167 0 6 (dk_at dksX0_roomOf_0 20 rfl rfl)
theorem dX0_roomOf_23 : decode cX0_roomOf 23 = .ok (.sipush (-1011), 3) := dk_17 252 13 (dk_at dksX0_roomOf_1 0 rfl rfl)
theorem dX0_roomOf_26 : decode cX0_roomOf 26 = .ok (.ireturn, 1) := dk_172 (dk_at dksX0_roomOf_1 3 rfl rfl)
abbrev cX0_doorOf : ByteArray := prog_1_method_18_code
def yX0_doorOf : MethodName := ⟨RX0, "doorOf", "(II)I"⟩
def dkwX0_doorOf_1 : List UInt8 := [192, 0, 132, 28, 182, 0, 134, 167, 0, 6, 17, 252, 13, 172]
abbrev dktX0_doorOf_1 : List UInt8 := dkwX0_doorOf_1 ++ []
def dkwX0_doorOf_0 : List UInt8 := [42, 180, 0, 35, 27, 182, 0, 119, 153, 0, 24, 42, 180, 0, 35, 180, 0, 122, 27, 182, 0, 126]
abbrev dktX0_doorOf_0 : List UInt8 := dkwX0_doorOf_0 ++ dktX0_doorOf_1
theorem dksX0_doorOf_0 : cX0_doorOf.data.toList.drop 0 = dktX0_doorOf_0 := by decide +kernel
theorem dksX0_doorOf_1 : cX0_doorOf.data.toList.drop 22 = dktX0_doorOf_1 := dk_seg dksX0_doorOf_0 22 rfl rfl
theorem dX0_doorOf_0 : decode cX0_doorOf 0 = .ok (.aload_n 0, 1) := dk_42 (dk_at dksX0_doorOf_0 0 rfl rfl)
theorem dX0_doorOf_1 : decode cX0_doorOf 1 = .ok (.getfield 35, 3) := dk_180 0 35 (dk_at dksX0_doorOf_0 1 rfl rfl)
theorem dX0_doorOf_4 : decode cX0_doorOf 4 = .ok (.iload_n 1, 1) := dk_27 (dk_at dksX0_doorOf_0 4 rfl rfl)
theorem dX0_doorOf_5 : decode cX0_doorOf 5 = .ok (.invokevirtual 119, 3) := dk_182 0 119 (dk_at dksX0_doorOf_0 5 rfl rfl)
theorem dX0_doorOf_8 : decode cX0_doorOf 8 = .ok (.ifCond .eq 24, 3) := dk_153 0 24 (dk_at dksX0_doorOf_0 8 rfl rfl)
theorem dX0_doorOf_11 : decode cX0_doorOf 11 = .ok (.aload_n 0, 1) := dk_42 (dk_at dksX0_doorOf_0 11 rfl rfl)
theorem dX0_doorOf_12 : decode cX0_doorOf 12 = .ok (.getfield 35, 3) := dk_180 0 35 (dk_at dksX0_doorOf_0 12 rfl rfl)
theorem dX0_doorOf_15 : decode cX0_doorOf 15 = .ok (.getfield 122, 3) := dk_180 0 122 (dk_at dksX0_doorOf_0 15 rfl rfl)
theorem dX0_doorOf_18 : decode cX0_doorOf 18 = .ok (.iload_n 1, 1) := dk_27 (dk_at dksX0_doorOf_0 18 rfl rfl)
theorem dX0_doorOf_19 : decode cX0_doorOf 19 = .ok (.invokevirtual 126, 3) := dk_182 0 126 (dk_at dksX0_doorOf_0 19 rfl rfl)
theorem dX0_doorOf_22 : decode cX0_doorOf 22 = .ok (.checkcast 132, 3) := dk_192 0 132 (dk_at dksX0_doorOf_1 0 rfl rfl)
theorem dX0_doorOf_25 : decode cX0_doorOf 25 = .ok (.iload_n 2, 1) := dk_28 (dk_at dksX0_doorOf_1 3 rfl rfl)
theorem dX0_doorOf_26 : decode cX0_doorOf 26 = .ok (.invokevirtual 134, 3) := dk_182 0 134 (dk_at dksX0_doorOf_1 4 rfl rfl)
theorem dX0_doorOf_29 : decode cX0_doorOf 29 = .ok (.goto 6, 3) := dk_167 0 6 (dk_at dksX0_doorOf_1 7 rfl rfl)
theorem dX0_doorOf_32 : decode cX0_doorOf 32 = .ok (.sipush (-1011), 3) := dk_17 252 13 (dk_at dksX0_doorOf_1 10 rfl rfl)
theorem dX0_doorOf_35 : decode cX0_doorOf 35 = .ok (.ireturn, 1) := dk_172 (dk_at dksX0_doorOf_1 13 rfl rfl)
abbrev cX0_go : ByteArray := prog_1_method_19_code
def yX0_go : MethodName := ⟨RX0, "go", "(I)I"⟩
def dkwX0_go_1 : List UInt8 := [44, 42, 180, 0, 35, 27, 182, 0, 137, 182, 0, 84, 172, 78, 42, 45, 182, 0, 88, 172]
abbrev dktX0_go_1 : List UInt8 := dkwX0_go_1 ++ []
def dkwX0_go_0 : List UInt8 := [42, 180, 0, 35, 27, 182, 0, 119, 154, 0, 7, 17, 252, 13, 172, 42, 180, 0, 35, 182, 0, 76, 77, 42]
abbrev dktX0_go_0 : List UInt8 := dkwX0_go_0 ++ dktX0_go_1
theorem dksX0_go_0 : cX0_go.data.toList.drop 0 = dktX0_go_0 := by decide +kernel
theorem dksX0_go_1 : cX0_go.data.toList.drop 24 = dktX0_go_1 := dk_seg dksX0_go_0 24 rfl rfl
theorem dX0_go_0 : decode cX0_go 0 = .ok (.aload_n 0, 1) := dk_42 (dk_at dksX0_go_0 0 rfl rfl)
theorem dX0_go_1 : decode cX0_go 1 = .ok (.getfield 35, 3) := dk_180 0 35 (dk_at dksX0_go_0 1 rfl rfl)
theorem dX0_go_4 : decode cX0_go 4 = .ok (.iload_n 1, 1) := dk_27 (dk_at dksX0_go_0 4 rfl rfl)
theorem dX0_go_5 : decode cX0_go 5 = .ok (.invokevirtual 119, 3) := dk_182 0 119 (dk_at dksX0_go_0 5 rfl rfl)
theorem dX0_go_8 : decode cX0_go 8 = .ok (.ifCond .ne 7, 3) := dk_154 0 7 (dk_at dksX0_go_0 8 rfl rfl)
theorem dX0_go_11 : decode cX0_go 11 = .ok (.sipush (-1011), 3) := dk_17 252 13 (dk_at dksX0_go_0 11 rfl rfl)
theorem dX0_go_14 : decode cX0_go 14 = .ok (.ireturn, 1) := dk_172 (dk_at dksX0_go_0 14 rfl rfl)
theorem dX0_go_15 : decode cX0_go 15 = .ok (.aload_n 0, 1) := dk_42 (dk_at dksX0_go_0 15 rfl rfl)
theorem dX0_go_16 : decode cX0_go 16 = .ok (.getfield 35, 3) := dk_180 0 35 (dk_at dksX0_go_0 16 rfl rfl)
theorem dX0_go_19 : decode cX0_go 19 = .ok (.invokevirtual 76, 3) := dk_182 0 76 (dk_at dksX0_go_0 19 rfl rfl)
theorem dX0_go_22 : decode cX0_go 22 = .ok (.astore_n 2, 1) := dk_77 (dk_at dksX0_go_0 22 rfl rfl)
theorem dX0_go_23 : decode cX0_go 23 = .ok (.aload_n 0, 1) := dk_42 (dk_at dksX0_go_0 23 rfl rfl)
theorem dX0_go_24 : decode cX0_go 24 = .ok (.aload_n 2, 1) := dk_44 (dk_at dksX0_go_1 0 rfl rfl)
theorem dX0_go_25 : decode cX0_go 25 = .ok (.aload_n 0, 1) := dk_42 (dk_at dksX0_go_1 1 rfl rfl)
theorem dX0_go_26 : decode cX0_go 26 = .ok (.getfield 35, 3) := dk_180 0 35 (dk_at dksX0_go_1 2 rfl rfl)
theorem dX0_go_29 : decode cX0_go 29 = .ok (.iload_n 1, 1) := dk_27 (dk_at dksX0_go_1 5 rfl rfl)
theorem dX0_go_30 : decode cX0_go 30 = .ok (.invokevirtual 137, 3) := dk_182 0 137 (dk_at dksX0_go_1 6 rfl rfl)
theorem dX0_go_33 : decode cX0_go 33 = .ok (.invokevirtual 84, 3) := dk_182 0 84 (dk_at dksX0_go_1 9 rfl rfl)
theorem dX0_go_36 : decode cX0_go 36 = .ok (.ireturn, 1) := dk_172 (dk_at dksX0_go_1 12 rfl rfl)
theorem dX0_go_37 : decode cX0_go 37 = .ok (.astore_n 3, 1) := dk_78 (dk_at dksX0_go_1 13 rfl rfl)
theorem dX0_go_38 : decode cX0_go 38 = .ok (.aload_n 0, 1) := dk_42 (dk_at dksX0_go_1 14 rfl rfl)
theorem dX0_go_39 : decode cX0_go 39 = .ok (.aload_n 3, 1) := dk_45 (dk_at dksX0_go_1 15 rfl rfl)
theorem dX0_go_40 : decode cX0_go 40 = .ok (.invokevirtual 88, 3) := dk_182 0 88 (dk_at dksX0_go_1 16 rfl rfl)
theorem dX0_go_43 : decode cX0_go 43 = .ok (.ireturn, 1) := dk_172 (dk_at dksX0_go_1 19 rfl rfl)
abbrev cX0_rest : ByteArray := prog_1_method_20_code
def yX0_rest : MethodName := ⟨RX0, "rest", "(I)I"⟩
def dkwX0_rest_1 : List UInt8 := [42, 180, 0, 35, 27, 182, 0, 140, 182, 0, 84, 172, 78, 42, 45, 182, 0, 88, 172]
abbrev dktX0_rest_1 : List UInt8 := dkwX0_rest_1 ++ []
def dkwX0_rest_0 : List UInt8 := [27, 4, 16, 50, 184, 0, 39, 154, 0, 7, 17, 252, 12, 172, 42, 180, 0, 35, 182, 0, 76, 77, 42, 44]
abbrev dktX0_rest_0 : List UInt8 := dkwX0_rest_0 ++ dktX0_rest_1
theorem dksX0_rest_0 : cX0_rest.data.toList.drop 0 = dktX0_rest_0 := by decide +kernel
theorem dksX0_rest_1 : cX0_rest.data.toList.drop 24 = dktX0_rest_1 := dk_seg dksX0_rest_0 24 rfl rfl
theorem dX0_rest_0 : decode cX0_rest 0 = .ok (.iload_n 1, 1) := dk_27 (dk_at dksX0_rest_0 0 rfl rfl)
theorem dX0_rest_1 : decode cX0_rest 1 = .ok (.iconst 1, 1) := dk_4 (dk_at dksX0_rest_0 1 rfl rfl)
theorem dX0_rest_2 : decode cX0_rest 2 = .ok (.bipush 50, 2) := dk_16 50 (dk_at dksX0_rest_0 2 rfl rfl)
theorem dX0_rest_4 : decode cX0_rest 4 = .ok (.invokestatic 39, 3) := dk_184 0 39 (dk_at dksX0_rest_0 4 rfl rfl)
theorem dX0_rest_7 : decode cX0_rest 7 = .ok (.ifCond .ne 7, 3) := dk_154 0 7 (dk_at dksX0_rest_0 7 rfl rfl)
theorem dX0_rest_10 : decode cX0_rest 10 = .ok (.sipush (-1012), 3) := dk_17 252 12 (dk_at dksX0_rest_0 10 rfl rfl)
theorem dX0_rest_13 : decode cX0_rest 13 = .ok (.ireturn, 1) := dk_172 (dk_at dksX0_rest_0 13 rfl rfl)
theorem dX0_rest_14 : decode cX0_rest 14 = .ok (.aload_n 0, 1) := dk_42 (dk_at dksX0_rest_0 14 rfl rfl)
theorem dX0_rest_15 : decode cX0_rest 15 = .ok (.getfield 35, 3) := dk_180 0 35 (dk_at dksX0_rest_0 15 rfl rfl)
theorem dX0_rest_18 : decode cX0_rest 18 = .ok (.invokevirtual 76, 3) := dk_182 0 76 (dk_at dksX0_rest_0 18 rfl rfl)
theorem dX0_rest_21 : decode cX0_rest 21 = .ok (.astore_n 2, 1) := dk_77 (dk_at dksX0_rest_0 21 rfl rfl)
theorem dX0_rest_22 : decode cX0_rest 22 = .ok (.aload_n 0, 1) := dk_42 (dk_at dksX0_rest_0 22 rfl rfl)
theorem dX0_rest_23 : decode cX0_rest 23 = .ok (.aload_n 2, 1) := dk_44 (dk_at dksX0_rest_0 23 rfl rfl)
theorem dX0_rest_24 : decode cX0_rest 24 = .ok (.aload_n 0, 1) := dk_42 (dk_at dksX0_rest_1 0 rfl rfl)
theorem dX0_rest_25 : decode cX0_rest 25 = .ok (.getfield 35, 3) := dk_180 0 35 (dk_at dksX0_rest_1 1 rfl rfl)
theorem dX0_rest_28 : decode cX0_rest 28 = .ok (.iload_n 1, 1) := dk_27 (dk_at dksX0_rest_1 4 rfl rfl)
theorem dX0_rest_29 : decode cX0_rest 29 = .ok (.invokevirtual 140, 3) := dk_182 0 140 (dk_at dksX0_rest_1 5 rfl rfl)
theorem dX0_rest_32 : decode cX0_rest 32 = .ok (.invokevirtual 84, 3) := dk_182 0 84 (dk_at dksX0_rest_1 8 rfl rfl)
theorem dX0_rest_35 : decode cX0_rest 35 = .ok (.ireturn, 1) := dk_172 (dk_at dksX0_rest_1 11 rfl rfl)
theorem dX0_rest_36 : decode cX0_rest 36 = .ok (.astore_n 3, 1) := dk_78 (dk_at dksX0_rest_1 12 rfl rfl)
theorem dX0_rest_37 : decode cX0_rest 37 = .ok (.aload_n 0, 1) := dk_42 (dk_at dksX0_rest_1 13 rfl rfl)
theorem dX0_rest_38 : decode cX0_rest 38 = .ok (.aload_n 3, 1) := dk_45 (dk_at dksX0_rest_1 14 rfl rfl)
theorem dX0_rest_39 : decode cX0_rest 39 = .ok (.invokevirtual 88, 3) := dk_182 0 88 (dk_at dksX0_rest_1 15 rfl rfl)
theorem dX0_rest_42 : decode cX0_rest 42 = .ok (.ireturn, 1) := dk_172 (dk_at dksX0_rest_1 18 rfl rfl)
abbrev cX0_take : ByteArray := prog_1_method_21_code
def yX0_take : MethodName := ⟨RX0, "take", "(I)I"⟩
def dkwX0_take_1 : List UInt8 := [180, 0, 35, 27, 182, 0, 143, 182, 0, 84, 172, 78, 42, 45, 182, 0, 88, 172]
abbrev dktX0_take_1 : List UInt8 := dkwX0_take_1 ++ []
def dkwX0_take_0 : List UInt8 := [27, 184, 0, 43, 154, 0, 7, 17, 252, 12, 172, 42, 180, 0, 35, 182, 0, 76, 77, 42, 44, 42]
abbrev dktX0_take_0 : List UInt8 := dkwX0_take_0 ++ dktX0_take_1
theorem dksX0_take_0 : cX0_take.data.toList.drop 0 = dktX0_take_0 := by decide +kernel
theorem dksX0_take_1 : cX0_take.data.toList.drop 22 = dktX0_take_1 := dk_seg dksX0_take_0 22 rfl rfl
theorem dX0_take_0 : decode cX0_take 0 = .ok (.iload_n 1, 1) := dk_27 (dk_at dksX0_take_0 0 rfl rfl)
theorem dX0_take_1 : decode cX0_take 1 = .ok (.invokestatic 43, 3) := dk_184 0 43 (dk_at dksX0_take_0 1 rfl rfl)
theorem dX0_take_4 : decode cX0_take 4 = .ok (.ifCond .ne 7, 3) := dk_154 0 7 (dk_at dksX0_take_0 4 rfl rfl)
theorem dX0_take_7 : decode cX0_take 7 = .ok (.sipush (-1012), 3) := dk_17 252 12 (dk_at dksX0_take_0 7 rfl rfl)
theorem dX0_take_10 : decode cX0_take 10 = .ok (.ireturn, 1) := dk_172 (dk_at dksX0_take_0 10 rfl rfl)
theorem dX0_take_11 : decode cX0_take 11 = .ok (.aload_n 0, 1) := dk_42 (dk_at dksX0_take_0 11 rfl rfl)
theorem dX0_take_12 : decode cX0_take 12 = .ok (.getfield 35, 3) := dk_180 0 35 (dk_at dksX0_take_0 12 rfl rfl)
theorem dX0_take_15 : decode cX0_take 15 = .ok (.invokevirtual 76, 3) := dk_182 0 76 (dk_at dksX0_take_0 15 rfl rfl)
theorem dX0_take_18 : decode cX0_take 18 = .ok (.astore_n 2, 1) := dk_77 (dk_at dksX0_take_0 18 rfl rfl)
theorem dX0_take_19 : decode cX0_take 19 = .ok (.aload_n 0, 1) := dk_42 (dk_at dksX0_take_0 19 rfl rfl)
theorem dX0_take_20 : decode cX0_take 20 = .ok (.aload_n 2, 1) := dk_44 (dk_at dksX0_take_0 20 rfl rfl)
theorem dX0_take_21 : decode cX0_take 21 = .ok (.aload_n 0, 1) := dk_42 (dk_at dksX0_take_0 21 rfl rfl)
theorem dX0_take_22 : decode cX0_take 22 = .ok (.getfield 35, 3) := dk_180 0 35 (dk_at dksX0_take_1 0 rfl rfl)
theorem dX0_take_25 : decode cX0_take 25 = .ok (.iload_n 1, 1) := dk_27 (dk_at dksX0_take_1 3 rfl rfl)
theorem dX0_take_26 : decode cX0_take 26 = .ok (.invokevirtual 143, 3) := dk_182 0 143 (dk_at dksX0_take_1 4 rfl rfl)
theorem dX0_take_29 : decode cX0_take 29 = .ok (.invokevirtual 84, 3) := dk_182 0 84 (dk_at dksX0_take_1 7 rfl rfl)
theorem dX0_take_32 : decode cX0_take 32 = .ok (.ireturn, 1) := dk_172 (dk_at dksX0_take_1 10 rfl rfl)
theorem dX0_take_33 : decode cX0_take 33 = .ok (.astore_n 3, 1) := dk_78 (dk_at dksX0_take_1 11 rfl rfl)
theorem dX0_take_34 : decode cX0_take 34 = .ok (.aload_n 0, 1) := dk_42 (dk_at dksX0_take_1 12 rfl rfl)
theorem dX0_take_35 : decode cX0_take 35 = .ok (.aload_n 3, 1) := dk_45 (dk_at dksX0_take_1 13 rfl rfl)
theorem dX0_take_36 : decode cX0_take 36 = .ok (.invokevirtual 88, 3) := dk_182 0 88 (dk_at dksX0_take_1 14 rfl rfl)
theorem dX0_take_39 : decode cX0_take 39 = .ok (.ireturn, 1) := dk_172 (dk_at dksX0_take_1 17 rfl rfl)
abbrev cX0_open : ByteArray := prog_1_method_22_code
def yX0_open : MethodName := ⟨RX0, "open", "(I)I"⟩
def dkwX0_open_1 : List UInt8 := [44, 42, 180, 0, 35, 27, 182, 0, 146, 182, 0, 84, 172, 78, 42, 45, 182, 0, 88, 172]
abbrev dktX0_open_1 : List UInt8 := dkwX0_open_1 ++ []
def dkwX0_open_0 : List UInt8 := [42, 180, 0, 35, 27, 182, 0, 119, 154, 0, 7, 17, 252, 13, 172, 42, 180, 0, 35, 182, 0, 76, 77, 42]
abbrev dktX0_open_0 : List UInt8 := dkwX0_open_0 ++ dktX0_open_1
theorem dksX0_open_0 : cX0_open.data.toList.drop 0 = dktX0_open_0 := by decide +kernel
theorem dksX0_open_1 : cX0_open.data.toList.drop 24 = dktX0_open_1 := dk_seg dksX0_open_0 24 rfl rfl
theorem dX0_open_0 : decode cX0_open 0 = .ok (.aload_n 0, 1) := dk_42 (dk_at dksX0_open_0 0 rfl rfl)
theorem dX0_open_1 : decode cX0_open 1 = .ok (.getfield 35, 3) := dk_180 0 35 (dk_at dksX0_open_0 1 rfl rfl)
theorem dX0_open_4 : decode cX0_open 4 = .ok (.iload_n 1, 1) := dk_27 (dk_at dksX0_open_0 4 rfl rfl)
theorem dX0_open_5 : decode cX0_open 5 = .ok (.invokevirtual 119, 3) := dk_182 0 119 (dk_at dksX0_open_0 5 rfl rfl)
theorem dX0_open_8 : decode cX0_open 8 = .ok (.ifCond .ne 7, 3) := dk_154 0 7 (dk_at dksX0_open_0 8 rfl rfl)
theorem dX0_open_11 : decode cX0_open 11 = .ok (.sipush (-1011), 3) := dk_17 252 13 (dk_at dksX0_open_0 11 rfl rfl)
theorem dX0_open_14 : decode cX0_open 14 = .ok (.ireturn, 1) := dk_172 (dk_at dksX0_open_0 14 rfl rfl)
theorem dX0_open_15 : decode cX0_open 15 = .ok (.aload_n 0, 1) := dk_42 (dk_at dksX0_open_0 15 rfl rfl)
theorem dX0_open_16 : decode cX0_open 16 = .ok (.getfield 35, 3) := dk_180 0 35 (dk_at dksX0_open_0 16 rfl rfl)
theorem dX0_open_19 : decode cX0_open 19 = .ok (.invokevirtual 76, 3) := dk_182 0 76 (dk_at dksX0_open_0 19 rfl rfl)
theorem dX0_open_22 : decode cX0_open 22 = .ok (.astore_n 2, 1) := dk_77 (dk_at dksX0_open_0 22 rfl rfl)
theorem dX0_open_23 : decode cX0_open 23 = .ok (.aload_n 0, 1) := dk_42 (dk_at dksX0_open_0 23 rfl rfl)
theorem dX0_open_24 : decode cX0_open 24 = .ok (.aload_n 2, 1) := dk_44 (dk_at dksX0_open_1 0 rfl rfl)
theorem dX0_open_25 : decode cX0_open 25 = .ok (.aload_n 0, 1) := dk_42 (dk_at dksX0_open_1 1 rfl rfl)
theorem dX0_open_26 : decode cX0_open 26 = .ok (.getfield 35, 3) := dk_180 0 35 (dk_at dksX0_open_1 2 rfl rfl)
theorem dX0_open_29 : decode cX0_open 29 = .ok (.iload_n 1, 1) := dk_27 (dk_at dksX0_open_1 5 rfl rfl)
theorem dX0_open_30 : decode cX0_open 30 = .ok (.invokevirtual 146, 3) := dk_182 0 146 (dk_at dksX0_open_1 6 rfl rfl)
theorem dX0_open_33 : decode cX0_open 33 = .ok (.invokevirtual 84, 3) := dk_182 0 84 (dk_at dksX0_open_1 9 rfl rfl)
theorem dX0_open_36 : decode cX0_open 36 = .ok (.ireturn, 1) := dk_172 (dk_at dksX0_open_1 12 rfl rfl)
theorem dX0_open_37 : decode cX0_open 37 = .ok (.astore_n 3, 1) := dk_78 (dk_at dksX0_open_1 13 rfl rfl)
theorem dX0_open_38 : decode cX0_open 38 = .ok (.aload_n 0, 1) := dk_42 (dk_at dksX0_open_1 14 rfl rfl)
theorem dX0_open_39 : decode cX0_open 39 = .ok (.aload_n 3, 1) := dk_45 (dk_at dksX0_open_1 15 rfl rfl)
theorem dX0_open_40 : decode cX0_open 40 = .ok (.invokevirtual 88, 3) := dk_182 0 88 (dk_at dksX0_open_1 16 rfl rfl)
theorem dX0_open_43 : decode cX0_open 43 = .ok (.ireturn, 1) := dk_172 (dk_at dksX0_open_1 19 rfl rfl)
abbrev cX0_walker : ByteArray := prog_1_method_23_code
def yX0_walker : MethodName := ⟨RX0, "walker", "(I)I"⟩
def dkwX0_walker_0 : List UInt8 := [42, 180, 0, 35, 27, 182, 0, 149, 172]
abbrev dktX0_walker_0 : List UInt8 := dkwX0_walker_0 ++ []
theorem dksX0_walker_0 : cX0_walker.data.toList.drop 0 = dktX0_walker_0 := by decide +kernel
theorem dX0_walker_0 : decode cX0_walker 0 = .ok (.aload_n 0, 1) := dk_42 (dk_at dksX0_walker_0 0 rfl rfl)
theorem dX0_walker_1 : decode cX0_walker 1 = .ok (.getfield 35, 3) := dk_180 0 35 (dk_at dksX0_walker_0 1 rfl rfl)
theorem dX0_walker_4 : decode cX0_walker 4 = .ok (.iload_n 1, 1) := dk_27 (dk_at dksX0_walker_0 4 rfl rfl)
theorem dX0_walker_5 : decode cX0_walker 5 = .ok (.invokevirtual 149, 3) := dk_182 0 149 (dk_at dksX0_walker_0 5 rfl rfl)
theorem dX0_walker_8 : decode cX0_walker 8 = .ok (.ireturn, 1) := dk_172 (dk_at dksX0_walker_0 8 rfl rfl)
abbrev cX0_way : ByteArray := prog_1_method_25_code
def yX0_way : MethodName := ⟨RX0, "way", "(III)I"⟩
def dkwX0_way_1 : List UInt8 := [28, 29, 182, 0, 159, 172]
abbrev dktX0_way_1 : List UInt8 := dkwX0_way_1 ++ []
def dkwX0_way_0 : List UInt8 := [42, 27, 28, 29, 182, 0, 155, 54, 4, 21, 4, 156, 0, 8, 21, 4, 167, 0, 13, 42, 180, 0, 35, 27]
abbrev dktX0_way_0 : List UInt8 := dkwX0_way_0 ++ dktX0_way_1
theorem dksX0_way_0 : cX0_way.data.toList.drop 0 = dktX0_way_0 := by decide +kernel
theorem dksX0_way_1 : cX0_way.data.toList.drop 24 = dktX0_way_1 := dk_seg dksX0_way_0 24 rfl rfl
theorem dX0_way_0 : decode cX0_way 0 = .ok (.aload_n 0, 1) := dk_42 (dk_at dksX0_way_0 0 rfl rfl)
theorem dX0_way_1 : decode cX0_way 1 = .ok (.iload_n 1, 1) := dk_27 (dk_at dksX0_way_0 1 rfl rfl)
theorem dX0_way_2 : decode cX0_way 2 = .ok (.iload_n 2, 1) := dk_28 (dk_at dksX0_way_0 2 rfl rfl)
theorem dX0_way_3 : decode cX0_way 3 = .ok (.iload_n 3, 1) := dk_29 (dk_at dksX0_way_0 3 rfl rfl)
theorem dX0_way_4 : decode cX0_way 4 = .ok (.invokevirtual 155, 3) := dk_182 0 155 (dk_at dksX0_way_0 4 rfl rfl)
theorem dX0_way_7 : decode cX0_way 7 = .ok (.istore 4, 2) := dk_54 4 (dk_at dksX0_way_0 7 rfl rfl)
theorem dX0_way_9 : decode cX0_way 9 = .ok (.iload 4, 2) := dk_21 4 (dk_at dksX0_way_0 9 rfl rfl)
theorem dX0_way_11 : decode cX0_way 11 = .ok (.ifCond .ge 8, 3) := dk_156 0 8 (dk_at dksX0_way_0 11 rfl rfl)
theorem dX0_way_14 : decode cX0_way 14 = .ok (.iload 4, 2) := dk_21 4 (dk_at dksX0_way_0 14 rfl rfl)
theorem dX0_way_16 : decode cX0_way 16 = .ok (.goto 13, 3) := dk_167 0 13 (dk_at dksX0_way_0 16 rfl rfl)
theorem dX0_way_19 : decode cX0_way 19 = .ok (.aload_n 0, 1) := dk_42 (dk_at dksX0_way_0 19 rfl rfl)
theorem dX0_way_20 : decode cX0_way 20 = .ok (.getfield 35, 3) := dk_180 0 35 (dk_at dksX0_way_0 20 rfl rfl)
theorem dX0_way_23 : decode cX0_way 23 = .ok (.iload_n 1, 1) := dk_27 (dk_at dksX0_way_0 23 rfl rfl)
theorem dX0_way_24 : decode cX0_way 24 = .ok (.iload_n 2, 1) := dk_28 (dk_at dksX0_way_1 0 rfl rfl)
theorem dX0_way_25 : decode cX0_way 25 = .ok (.iload_n 3, 1) := dk_29 (dk_at dksX0_way_1 1 rfl rfl)
theorem dX0_way_26 : decode cX0_way 26 = .ok (.invokevirtual 159, 3) := dk_182 0 159 (dk_at dksX0_way_1 2 rfl rfl)
theorem dX0_way_29 : decode cX0_way 29 = .ok (.ireturn, 1) := dk_172 (dk_at dksX0_way_1 5 rfl rfl)
abbrev cX0_wrong : ByteArray := prog_1_method_24_code
def yX0_wrong : MethodName := ⟨RX0, "wrong", "(III)I"⟩
def dkwX0_wrong_1 : List UInt8 := [153, 0, 7, 3, 167, 0, 6, 17, 252, 12, 172]
abbrev dktX0_wrong_1 : List UInt8 := dkwX0_wrong_1 ++ []
def dkwX0_wrong_0 : List UInt8 := [42, 180, 0, 35, 27, 28, 182, 0, 92, 154, 0, 9, 17, 252, 13, 167, 0, 17, 29, 184, 0, 152]
abbrev dktX0_wrong_0 : List UInt8 := dkwX0_wrong_0 ++ dktX0_wrong_1
theorem dksX0_wrong_0 : cX0_wrong.data.toList.drop 0 = dktX0_wrong_0 := by decide +kernel
theorem dksX0_wrong_1 : cX0_wrong.data.toList.drop 22 = dktX0_wrong_1 := dk_seg dksX0_wrong_0 22 rfl rfl
theorem dX0_wrong_0 : decode cX0_wrong 0 = .ok (.aload_n 0, 1) := dk_42 (dk_at dksX0_wrong_0 0 rfl rfl)
theorem dX0_wrong_1 : decode cX0_wrong 1 = .ok (.getfield 35, 3) := dk_180 0 35 (dk_at dksX0_wrong_0 1 rfl rfl)
theorem dX0_wrong_4 : decode cX0_wrong 4 = .ok (.iload_n 1, 1) := dk_27 (dk_at dksX0_wrong_0 4 rfl rfl)
theorem dX0_wrong_5 : decode cX0_wrong 5 = .ok (.iload_n 2, 1) := dk_28 (dk_at dksX0_wrong_0 5 rfl rfl)
theorem dX0_wrong_6 : decode cX0_wrong 6 = .ok (.invokevirtual 92, 3) := dk_182 0 92 (dk_at dksX0_wrong_0 6 rfl rfl)
theorem dX0_wrong_9 : decode cX0_wrong 9 = .ok (.ifCond .ne 9, 3) := dk_154 0 9 (dk_at dksX0_wrong_0 9 rfl rfl)
theorem dX0_wrong_12 : decode cX0_wrong 12 = .ok (.sipush (-1011), 3) := dk_17 252 13 (dk_at dksX0_wrong_0 12 rfl rfl)
theorem dX0_wrong_15 : decode cX0_wrong 15 = .ok (.goto 17, 3) := dk_167 0 17 (dk_at dksX0_wrong_0 15 rfl rfl)
theorem dX0_wrong_18 : decode cX0_wrong 18 = .ok (.iload_n 3, 1) := dk_29 (dk_at dksX0_wrong_0 18 rfl rfl)
theorem dX0_wrong_19 : decode cX0_wrong 19 = .ok (.invokestatic 152, 3) := dk_184 0 152 (dk_at dksX0_wrong_0 19 rfl rfl)
theorem dX0_wrong_22 : decode cX0_wrong 22 = .ok (.ifCond .eq 7, 3) := dk_153 0 7 (dk_at dksX0_wrong_1 0 rfl rfl)
theorem dX0_wrong_25 : decode cX0_wrong 25 = .ok (.iconst 0, 1) := dk_3 (dk_at dksX0_wrong_1 3 rfl rfl)
theorem dX0_wrong_26 : decode cX0_wrong 26 = .ok (.goto 6, 3) := dk_167 0 6 (dk_at dksX0_wrong_1 4 rfl rfl)
theorem dX0_wrong_29 : decode cX0_wrong 29 = .ok (.sipush (-1012), 3) := dk_17 252 12 (dk_at dksX0_wrong_1 7 rfl rfl)
theorem dX0_wrong_32 : decode cX0_wrong 32 = .ok (.ireturn, 1) := dk_172 (dk_at dksX0_wrong_1 10 rfl rfl)
abbrev cX0_isParity : ByteArray := prog_1_method_8_code
def yX0_isParity : MethodName := ⟨RX0, "isParity", "(I)Z"⟩
def dkwX0_isParity_0 : List UInt8 := [26, 3, 4, 184, 0, 39, 172]
abbrev dktX0_isParity_0 : List UInt8 := dkwX0_isParity_0 ++ []
theorem dksX0_isParity_0 : cX0_isParity.data.toList.drop 0 = dktX0_isParity_0 := by decide +kernel
theorem dX0_isParity_0 : decode cX0_isParity 0 = .ok (.iload_n 0, 1) := dk_26 (dk_at dksX0_isParity_0 0 rfl rfl)
theorem dX0_isParity_1 : decode cX0_isParity 1 = .ok (.iconst 0, 1) := dk_3 (dk_at dksX0_isParity_0 1 rfl rfl)
theorem dX0_isParity_2 : decode cX0_isParity 2 = .ok (.iconst 1, 1) := dk_4 (dk_at dksX0_isParity_0 2 rfl rfl)
theorem dX0_isParity_3 : decode cX0_isParity 3 = .ok (.invokestatic 39, 3) := dk_184 0 39 (dk_at dksX0_isParity_0 3 rfl rfl)
theorem dX0_isParity_6 : decode cX0_isParity 6 = .ok (.ireturn, 1) := dk_172 (dk_at dksX0_isParity_0 6 rfl rfl)
abbrev cX0_wayAgain : ByteArray := prog_1_method_26_code
def yX0_wayAgain : MethodName := ⟨RX0, "wayAgain", "(III)I"⟩
def dkwX0_wayAgain_1 : List UInt8 := [28, 29, 182, 0, 162, 172]
abbrev dktX0_wayAgain_1 : List UInt8 := dkwX0_wayAgain_1 ++ []
def dkwX0_wayAgain_0 : List UInt8 := [42, 27, 28, 29, 182, 0, 155, 54, 4, 21, 4, 156, 0, 8, 21, 4, 167, 0, 13, 42, 180, 0, 35, 27]
abbrev dktX0_wayAgain_0 : List UInt8 := dkwX0_wayAgain_0 ++ dktX0_wayAgain_1
theorem dksX0_wayAgain_0 : cX0_wayAgain.data.toList.drop 0 = dktX0_wayAgain_0 := by decide +kernel
theorem dksX0_wayAgain_1 : cX0_wayAgain.data.toList.drop 24 = dktX0_wayAgain_1 := dk_seg dksX0_wayAgain_0 24 rfl rfl
theorem dX0_wayAgain_0 : decode cX0_wayAgain 0 = .ok (.aload_n 0, 1) := dk_42 (dk_at dksX0_wayAgain_0 0 rfl rfl)
theorem dX0_wayAgain_1 : decode cX0_wayAgain 1 = .ok (.iload_n 1, 1) := dk_27 (dk_at dksX0_wayAgain_0 1 rfl rfl)
theorem dX0_wayAgain_2 : decode cX0_wayAgain 2 = .ok (.iload_n 2, 1) := dk_28 (dk_at dksX0_wayAgain_0 2 rfl rfl)
theorem dX0_wayAgain_3 : decode cX0_wayAgain 3 = .ok (.iload_n 3, 1) := dk_29 (dk_at dksX0_wayAgain_0 3 rfl rfl)
theorem dX0_wayAgain_4 : decode cX0_wayAgain 4 = .ok (.invokevirtual 155, 3) := dk_182 0 155 (dk_at dksX0_wayAgain_0 4 rfl rfl)
theorem dX0_wayAgain_7 : decode cX0_wayAgain 7 = .ok (.istore 4, 2) := dk_54 4 (dk_at dksX0_wayAgain_0 7 rfl rfl)
theorem dX0_wayAgain_9 : decode cX0_wayAgain 9 = .ok (.iload 4, 2) := dk_21 4 (dk_at dksX0_wayAgain_0 9 rfl rfl)
theorem dX0_wayAgain_11 : decode cX0_wayAgain 11 = .ok (.ifCond .ge 8, 3) := dk_156 0 8 (dk_at dksX0_wayAgain_0 11 rfl rfl)
theorem dX0_wayAgain_14 : decode cX0_wayAgain 14 = .ok (.iload 4, 2) := dk_21 4 (dk_at dksX0_wayAgain_0 14 rfl rfl)
theorem dX0_wayAgain_16 : decode cX0_wayAgain 16 = .ok (.goto 13, 3) := dk_167 0 13 (dk_at dksX0_wayAgain_0 16 rfl rfl)
theorem dX0_wayAgain_19 : decode cX0_wayAgain 19 = .ok (.aload_n 0, 1) := dk_42 (dk_at dksX0_wayAgain_0 19 rfl rfl)
theorem dX0_wayAgain_20 : decode cX0_wayAgain 20 = .ok (.getfield 35, 3) := dk_180 0 35 (dk_at dksX0_wayAgain_0 20 rfl rfl)
theorem dX0_wayAgain_23 : decode cX0_wayAgain 23 = .ok (.iload_n 1, 1) := dk_27 (dk_at dksX0_wayAgain_0 23 rfl rfl)
theorem dX0_wayAgain_24 : decode cX0_wayAgain 24 = .ok (.iload_n 2, 1) := dk_28 (dk_at dksX0_wayAgain_1 0 rfl rfl)
theorem dX0_wayAgain_25 : decode cX0_wayAgain 25 = .ok (.iload_n 3, 1) := dk_29 (dk_at dksX0_wayAgain_1 1 rfl rfl)
theorem dX0_wayAgain_26 : decode cX0_wayAgain 26 = .ok (.invokevirtual 162, 3) := dk_182 0 162 (dk_at dksX0_wayAgain_1 2 rfl rfl)
theorem dX0_wayAgain_29 : decode cX0_wayAgain 29 = .ok (.ireturn, 1) := dk_172 (dk_at dksX0_wayAgain_1 5 rfl rfl)
abbrev cX0_onWay : ByteArray := prog_1_method_27_code
def yX0_onWay : MethodName := ⟨RX0, "onWay", "(IIII)I"⟩
def dkwX0_onWay_3 : List UInt8 := [167, 0, 20, 25, 6, 182, 0, 178, 153, 0, 9, 17, 252, 9, 167, 0, 6, 17, 252, 13, 172]
abbrev dktX0_onWay_3 : List UInt8 := dkwX0_onWay_3 ++ []
def dkwX0_onWay_2 : List UInt8 := [182, 0, 169, 4, 100, 184, 0, 39, 153, 0, 19, 25, 6, 21, 4, 182, 0, 172, 192, 0, 173, 182, 0, 175]
abbrev dktX0_onWay_2 : List UInt8 := dkwX0_onWay_2 ++ dktX0_onWay_3
def dkwX0_onWay_1 : List UInt8 := [156, 0, 6, 21, 5, 172, 42, 180, 0, 35, 27, 28, 29, 182, 0, 165, 58, 6, 21, 4, 3, 25, 6]
abbrev dktX0_onWay_1 : List UInt8 := dkwX0_onWay_1 ++ dktX0_onWay_2
def dkwX0_onWay_0 : List UInt8 := [21, 4, 156, 0, 9, 17, 252, 13, 167, 0, 10, 42, 27, 28, 29, 182, 0, 155, 54, 5, 21, 5]
abbrev dktX0_onWay_0 : List UInt8 := dkwX0_onWay_0 ++ dktX0_onWay_1
theorem dksX0_onWay_0 : cX0_onWay.data.toList.drop 0 = dktX0_onWay_0 := by decide +kernel
theorem dksX0_onWay_1 : cX0_onWay.data.toList.drop 22 = dktX0_onWay_1 := dk_seg dksX0_onWay_0 22 rfl rfl
theorem dksX0_onWay_2 : cX0_onWay.data.toList.drop 45 = dktX0_onWay_2 := dk_seg dksX0_onWay_1 23 rfl rfl
theorem dksX0_onWay_3 : cX0_onWay.data.toList.drop 69 = dktX0_onWay_3 := dk_seg dksX0_onWay_2 24 rfl rfl
theorem dX0_onWay_0 : decode cX0_onWay 0 = .ok (.iload 4, 2) := dk_21 4 (dk_at dksX0_onWay_0 0 rfl rfl)
theorem dX0_onWay_2 : decode cX0_onWay 2 = .ok (.ifCond .ge 9, 3) := dk_156 0 9 (dk_at dksX0_onWay_0 2 rfl rfl)
theorem dX0_onWay_5 : decode cX0_onWay 5 = .ok (.sipush (-1011), 3) := dk_17 252 13 (dk_at dksX0_onWay_0 5 rfl rfl)
theorem dX0_onWay_8 : decode cX0_onWay 8 = .ok (.goto 10, 3) := dk_167 0 10 (dk_at dksX0_onWay_0 8 rfl rfl)
theorem dX0_onWay_11 : decode cX0_onWay 11 = .ok (.aload_n 0, 1) := dk_42 (dk_at dksX0_onWay_0 11 rfl rfl)
theorem dX0_onWay_12 : decode cX0_onWay 12 = .ok (.iload_n 1, 1) := dk_27 (dk_at dksX0_onWay_0 12 rfl rfl)
theorem dX0_onWay_13 : decode cX0_onWay 13 = .ok (.iload_n 2, 1) := dk_28 (dk_at dksX0_onWay_0 13 rfl rfl)
theorem dX0_onWay_14 : decode cX0_onWay 14 = .ok (.iload_n 3, 1) := dk_29 (dk_at dksX0_onWay_0 14 rfl rfl)
theorem dX0_onWay_15 : decode cX0_onWay 15 = .ok (.invokevirtual 155, 3) := dk_182 0 155 (dk_at dksX0_onWay_0 15 rfl rfl)
theorem dX0_onWay_18 : decode cX0_onWay 18 = .ok (.istore 5, 2) := dk_54 5 (dk_at dksX0_onWay_0 18 rfl rfl)
theorem dX0_onWay_20 : decode cX0_onWay 20 = .ok (.iload 5, 2) := dk_21 5 (dk_at dksX0_onWay_0 20 rfl rfl)
theorem dX0_onWay_22 : decode cX0_onWay 22 = .ok (.ifCond .ge 6, 3) := dk_156 0 6 (dk_at dksX0_onWay_1 0 rfl rfl)
theorem dX0_onWay_25 : decode cX0_onWay 25 = .ok (.iload 5, 2) := dk_21 5 (dk_at dksX0_onWay_1 3 rfl rfl)
theorem dX0_onWay_27 : decode cX0_onWay 27 = .ok (.ireturn, 1) := dk_172 (dk_at dksX0_onWay_1 5 rfl rfl)
theorem dX0_onWay_28 : decode cX0_onWay 28 = .ok (.aload_n 0, 1) := dk_42 (dk_at dksX0_onWay_1 6 rfl rfl)
theorem dX0_onWay_29 : decode cX0_onWay 29 = .ok (.getfield 35, 3) := dk_180 0 35 (dk_at dksX0_onWay_1 7 rfl rfl)
theorem dX0_onWay_32 : decode cX0_onWay 32 = .ok (.iload_n 1, 1) := dk_27 (dk_at dksX0_onWay_1 10 rfl rfl)
theorem dX0_onWay_33 : decode cX0_onWay 33 = .ok (.iload_n 2, 1) := dk_28 (dk_at dksX0_onWay_1 11 rfl rfl)
theorem dX0_onWay_34 : decode cX0_onWay 34 = .ok (.iload_n 3, 1) := dk_29 (dk_at dksX0_onWay_1 12 rfl rfl)
theorem dX0_onWay_35 : decode cX0_onWay 35 = .ok (.invokevirtual 165, 3) := dk_182 0 165 (dk_at dksX0_onWay_1 13 rfl rfl)
theorem dX0_onWay_38 : decode cX0_onWay 38 = .ok (.astore 6, 2) := dk_58 6 (dk_at dksX0_onWay_1 16 rfl rfl)
theorem dX0_onWay_40 : decode cX0_onWay 40 = .ok (.iload 4, 2) := dk_21 4 (dk_at dksX0_onWay_1 18 rfl rfl)
theorem dX0_onWay_42 : decode cX0_onWay 42 = .ok (.iconst 0, 1) := dk_3 (dk_at dksX0_onWay_1 20 rfl rfl)
theorem dX0_onWay_43 : decode cX0_onWay 43 = .ok (.aload 6, 2) := dk_25 6 (dk_at dksX0_onWay_1 21 rfl rfl)
theorem dX0_onWay_45 : decode cX0_onWay 45 = .ok (.invokevirtual 169, 3) := dk_182 0 169 (dk_at dksX0_onWay_2 0 rfl rfl)
theorem dX0_onWay_48 : decode cX0_onWay 48 = .ok (.iconst 1, 1) := dk_4 (dk_at dksX0_onWay_2 3 rfl rfl)
theorem dX0_onWay_49 : decode cX0_onWay 49 = .ok (.isub, 1) := dk_100 (dk_at dksX0_onWay_2 4 rfl rfl)
theorem dX0_onWay_50 : decode cX0_onWay 50 = .ok (.invokestatic 39, 3) := dk_184 0 39 (dk_at dksX0_onWay_2 5 rfl rfl)
theorem dX0_onWay_53 : decode cX0_onWay 53 = .ok (.ifCond .eq 19, 3) := dk_153 0 19 (dk_at dksX0_onWay_2 8 rfl rfl)
theorem dX0_onWay_56 : decode cX0_onWay 56 = .ok (.aload 6, 2) := dk_25 6 (dk_at dksX0_onWay_2 11 rfl rfl)
theorem dX0_onWay_58 : decode cX0_onWay 58 = .ok (.iload 4, 2) := dk_21 4 (dk_at dksX0_onWay_2 13 rfl rfl)
theorem dX0_onWay_60 : decode cX0_onWay 60 = .ok (.invokevirtual 172, 3) := dk_182 0 172 (dk_at dksX0_onWay_2 15 rfl rfl)
theorem dX0_onWay_63 : decode cX0_onWay 63 = .ok (.checkcast 173, 3) := dk_192 0 173 (dk_at dksX0_onWay_2 18 rfl rfl)
theorem dX0_onWay_66 : decode cX0_onWay 66 = .ok (.invokevirtual 175, 3) := dk_182 0 175 (dk_at dksX0_onWay_2 21 rfl rfl)
theorem dX0_onWay_69 : decode cX0_onWay 69 = .ok (.goto 20, 3) := dk_167 0 20 (dk_at dksX0_onWay_3 0 rfl rfl)
theorem dX0_onWay_72 : decode cX0_onWay 72 = .ok (.aload 6, 2) := dk_25 6 (dk_at dksX0_onWay_3 3 rfl rfl)
theorem dX0_onWay_74 : decode cX0_onWay 74 = .ok (.invokevirtual 178, 3) := dk_182 0 178 (dk_at dksX0_onWay_3 5 rfl rfl)
theorem dX0_onWay_77 : decode cX0_onWay 77 = .ok (.ifCond .eq 9, 3) := dk_153 0 9 (dk_at dksX0_onWay_3 8 rfl rfl)
theorem dX0_onWay_80 : decode cX0_onWay 80 = .ok (.sipush (-1015), 3) := dk_17 252 9 (dk_at dksX0_onWay_3 11 rfl rfl)
theorem dX0_onWay_83 : decode cX0_onWay 83 = .ok (.goto 6, 3) := dk_167 0 6 (dk_at dksX0_onWay_3 14 rfl rfl)
theorem dX0_onWay_86 : decode cX0_onWay 86 = .ok (.sipush (-1011), 3) := dk_17 252 13 (dk_at dksX0_onWay_3 17 rfl rfl)
theorem dX0_onWay_89 : decode cX0_onWay 89 = .ok (.ireturn, 1) := dk_172 (dk_at dksX0_onWay_3 20 rfl rfl)
abbrev cX0_longerBack : ByteArray := prog_1_method_28_code
def yX0_longerBack : MethodName := ⟨RX0, "longerBack", "(III)I"⟩
def dkwX0_longerBack_1 : List UInt8 := [28, 29, 182, 0, 182, 172]
abbrev dktX0_longerBack_1 : List UInt8 := dkwX0_longerBack_1 ++ []
def dkwX0_longerBack_0 : List UInt8 := [42, 27, 28, 29, 182, 0, 155, 54, 4, 21, 4, 156, 0, 8, 21, 4, 167, 0, 13, 42, 180, 0, 35, 27]
abbrev dktX0_longerBack_0 : List UInt8 := dkwX0_longerBack_0 ++ dktX0_longerBack_1
theorem dksX0_longerBack_0 : cX0_longerBack.data.toList.drop 0 = dktX0_longerBack_0 := by decide +kernel
theorem dksX0_longerBack_1 : cX0_longerBack.data.toList.drop 24 = dktX0_longerBack_1 := dk_seg dksX0_longerBack_0 24 rfl rfl
theorem dX0_longerBack_0 : decode cX0_longerBack 0 = .ok (.aload_n 0, 1) := dk_42 (dk_at dksX0_longerBack_0 0 rfl rfl)
theorem dX0_longerBack_1 : decode cX0_longerBack 1 = .ok (.iload_n 1, 1) := dk_27 (dk_at dksX0_longerBack_0 1 rfl rfl)
theorem dX0_longerBack_2 : decode cX0_longerBack 2 = .ok (.iload_n 2, 1) := dk_28 (dk_at dksX0_longerBack_0 2 rfl rfl)
theorem dX0_longerBack_3 : decode cX0_longerBack 3 = .ok (.iload_n 3, 1) := dk_29 (dk_at dksX0_longerBack_0 3 rfl rfl)
theorem dX0_longerBack_4 : decode cX0_longerBack 4 = .ok (.invokevirtual 155, 3) := dk_182 0 155 (dk_at dksX0_longerBack_0 4 rfl rfl)
theorem dX0_longerBack_7 : decode cX0_longerBack 7 = .ok (.istore 4, 2) := dk_54 4 (dk_at dksX0_longerBack_0 7 rfl rfl)
theorem dX0_longerBack_9 : decode cX0_longerBack 9 = .ok (.iload 4, 2) := dk_21 4 (dk_at dksX0_longerBack_0 9 rfl rfl)
theorem dX0_longerBack_11 : decode cX0_longerBack 11 = .ok (.ifCond .ge 8, 3) := dk_156 0 8 (dk_at dksX0_longerBack_0 11 rfl rfl)
theorem dX0_longerBack_14 : decode cX0_longerBack 14 = .ok (.iload 4, 2) := dk_21 4 (dk_at dksX0_longerBack_0 14 rfl rfl)
theorem dX0_longerBack_16 : decode cX0_longerBack 16 = .ok (.goto 13, 3) := dk_167 0 13 (dk_at dksX0_longerBack_0 16 rfl rfl)
theorem dX0_longerBack_19 : decode cX0_longerBack 19 = .ok (.aload_n 0, 1) := dk_42 (dk_at dksX0_longerBack_0 19 rfl rfl)
theorem dX0_longerBack_20 : decode cX0_longerBack 20 = .ok (.getfield 35, 3) := dk_180 0 35 (dk_at dksX0_longerBack_0 20 rfl rfl)
theorem dX0_longerBack_23 : decode cX0_longerBack 23 = .ok (.iload_n 1, 1) := dk_27 (dk_at dksX0_longerBack_0 23 rfl rfl)
theorem dX0_longerBack_24 : decode cX0_longerBack 24 = .ok (.iload_n 2, 1) := dk_28 (dk_at dksX0_longerBack_1 0 rfl rfl)
theorem dX0_longerBack_25 : decode cX0_longerBack 25 = .ok (.iload_n 3, 1) := dk_29 (dk_at dksX0_longerBack_1 1 rfl rfl)
theorem dX0_longerBack_26 : decode cX0_longerBack 26 = .ok (.invokevirtual 182, 3) := dk_182 0 182 (dk_at dksX0_longerBack_1 2 rfl rfl)
theorem dX0_longerBack_29 : decode cX0_longerBack 29 = .ok (.ireturn, 1) := dk_172 (dk_at dksX0_longerBack_1 5 rfl rfl)
abbrev cX0_reach : ByteArray := prog_1_method_29_code
def yX0_reach : MethodName := ⟨RX0, "reach", "()I"⟩
def dkwX0_reach_0 : List UInt8 := [42, 180, 0, 35, 182, 0, 185, 172]
abbrev dktX0_reach_0 : List UInt8 := dkwX0_reach_0 ++ []
theorem dksX0_reach_0 : cX0_reach.data.toList.drop 0 = dktX0_reach_0 := by decide +kernel
theorem dX0_reach_0 : decode cX0_reach 0 = .ok (.aload_n 0, 1) := dk_42 (dk_at dksX0_reach_0 0 rfl rfl)
theorem dX0_reach_1 : decode cX0_reach 1 = .ok (.getfield 35, 3) := dk_180 0 35 (dk_at dksX0_reach_0 1 rfl rfl)
theorem dX0_reach_4 : decode cX0_reach 4 = .ok (.invokevirtual 185, 3) := dk_182 0 185 (dk_at dksX0_reach_0 4 rfl rfl)
theorem dX0_reach_7 : decode cX0_reach 7 = .ok (.ireturn, 1) := dk_172 (dk_at dksX0_reach_0 7 rfl rfl)
abbrev cX0_nearestKey : ByteArray := prog_1_method_30_code
def yX0_nearestKey : MethodName := ⟨RX0, "nearestKey", "(I)I"⟩
def dkwX0_nearestKey_0 : List UInt8 := [27, 184, 0, 43, 153, 0, 14, 42, 180, 0, 35, 27, 182, 0, 188, 167, 0, 6, 17, 252, 12, 172]
abbrev dktX0_nearestKey_0 : List UInt8 := dkwX0_nearestKey_0 ++ []
theorem dksX0_nearestKey_0 : cX0_nearestKey.data.toList.drop 0 = dktX0_nearestKey_0 := by decide +kernel
theorem dX0_nearestKey_0 : decode cX0_nearestKey 0 = .ok (.iload_n 1, 1) := dk_27 (dk_at dksX0_nearestKey_0 0 rfl rfl)
theorem dX0_nearestKey_1 : decode cX0_nearestKey 1 = .ok (.invokestatic 43, 3) := dk_184 0 43 (dk_at dksX0_nearestKey_0 1 rfl rfl)
theorem dX0_nearestKey_4 : decode cX0_nearestKey 4 = .ok (.ifCond .eq 14, 3) := dk_153 0 14 (dk_at dksX0_nearestKey_0 4 rfl rfl)
theorem dX0_nearestKey_7 : decode cX0_nearestKey 7 = .ok (.aload_n 0, 1) := dk_42 (dk_at dksX0_nearestKey_0 7 rfl rfl)
theorem dX0_nearestKey_8 : decode cX0_nearestKey 8 = .ok (.getfield 35, 3) := dk_180 0 35 (dk_at dksX0_nearestKey_0 8 rfl rfl)
theorem dX0_nearestKey_11 : decode cX0_nearestKey 11 = .ok (.iload_n 1, 1) := dk_27 (dk_at dksX0_nearestKey_0 11 rfl rfl)
theorem dX0_nearestKey_12 : decode cX0_nearestKey 12 = .ok (.invokevirtual 188, 3) := dk_182 0 188 (dk_at dksX0_nearestKey_0 12 rfl rfl)
theorem dX0_nearestKey_15 : decode cX0_nearestKey 15 = .ok (.goto 6, 3) := dk_167 0 6 (dk_at dksX0_nearestKey_0 15 rfl rfl)
theorem dX0_nearestKey_18 : decode cX0_nearestKey 18 = .ok (.sipush (-1012), 3) := dk_17 252 12 (dk_at dksX0_nearestKey_0 18 rfl rfl)
theorem dX0_nearestKey_21 : decode cX0_nearestKey 21 = .ok (.ireturn, 1) := dk_172 (dk_at dksX0_nearestKey_0 21 rfl rfl)
abbrev cX0_ranked : ByteArray := prog_1_method_31_code
def yX0_ranked : MethodName := ⟨RX0, "ranked", "(I)I"⟩
def dkwX0_ranked_0 : List UInt8 := [42, 180, 0, 35, 27, 182, 0, 191, 172]
abbrev dktX0_ranked_0 : List UInt8 := dkwX0_ranked_0 ++ []
theorem dksX0_ranked_0 : cX0_ranked.data.toList.drop 0 = dktX0_ranked_0 := by decide +kernel
theorem dX0_ranked_0 : decode cX0_ranked 0 = .ok (.aload_n 0, 1) := dk_42 (dk_at dksX0_ranked_0 0 rfl rfl)
theorem dX0_ranked_1 : decode cX0_ranked 1 = .ok (.getfield 35, 3) := dk_180 0 35 (dk_at dksX0_ranked_0 1 rfl rfl)
theorem dX0_ranked_4 : decode cX0_ranked 4 = .ok (.iload_n 1, 1) := dk_27 (dk_at dksX0_ranked_0 4 rfl rfl)
theorem dX0_ranked_5 : decode cX0_ranked 5 = .ok (.invokevirtual 191, 3) := dk_182 0 191 (dk_at dksX0_ranked_0 5 rfl rfl)
theorem dX0_ranked_8 : decode cX0_ranked 8 = .ok (.ireturn, 1) := dk_172 (dk_at dksX0_ranked_0 8 rfl rfl)
abbrev cX0_append : ByteArray := prog_1_method_32_code
def yX0_append : MethodName := ⟨RX0, "append", "(I)I"⟩
def dkwX0_append_2 : List UInt8 := [172]
abbrev dktX0_append_2 : List UInt8 := dkwX0_append_2 ++ []
def dkwX0_append_1 : List UInt8 := [160, 0, 7, 17, 252, 11, 172, 42, 180, 0, 25, 27, 146, 182, 0, 197, 87, 42, 180, 0, 25, 182, 0, 194]
abbrev dktX0_append_1 : List UInt8 := dkwX0_append_1 ++ dktX0_append_2
def dkwX0_append_0 : List UInt8 := [27, 16, 32, 16, 126, 184, 0, 39, 154, 0, 7, 17, 252, 12, 172, 42, 180, 0, 25, 182, 0, 194, 16, 60]
abbrev dktX0_append_0 : List UInt8 := dkwX0_append_0 ++ dktX0_append_1
theorem dksX0_append_0 : cX0_append.data.toList.drop 0 = dktX0_append_0 := by decide +kernel
theorem dksX0_append_1 : cX0_append.data.toList.drop 24 = dktX0_append_1 := dk_seg dksX0_append_0 24 rfl rfl
theorem dksX0_append_2 : cX0_append.data.toList.drop 48 = dktX0_append_2 := dk_seg dksX0_append_1 24 rfl rfl
theorem dX0_append_0 : decode cX0_append 0 = .ok (.iload_n 1, 1) := dk_27 (dk_at dksX0_append_0 0 rfl rfl)
theorem dX0_append_1 : decode cX0_append 1 = .ok (.bipush 32, 2) := dk_16 32 (dk_at dksX0_append_0 1 rfl rfl)
theorem dX0_append_3 : decode cX0_append 3 = .ok (.bipush 126, 2) := dk_16 126 (dk_at dksX0_append_0 3 rfl rfl)
theorem dX0_append_5 : decode cX0_append 5 = .ok (.invokestatic 39, 3) := dk_184 0 39 (dk_at dksX0_append_0 5 rfl rfl)
theorem dX0_append_8 : decode cX0_append 8 = .ok (.ifCond .ne 7, 3) := dk_154 0 7 (dk_at dksX0_append_0 8 rfl rfl)
theorem dX0_append_11 : decode cX0_append 11 = .ok (.sipush (-1012), 3) := dk_17 252 12 (dk_at dksX0_append_0 11 rfl rfl)
theorem dX0_append_14 : decode cX0_append 14 = .ok (.ireturn, 1) := dk_172 (dk_at dksX0_append_0 14 rfl rfl)
theorem dX0_append_15 : decode cX0_append 15 = .ok (.aload_n 0, 1) := dk_42 (dk_at dksX0_append_0 15 rfl rfl)
theorem dX0_append_16 : decode cX0_append 16 = .ok (.getfield 25, 3) := dk_180 0 25 (dk_at dksX0_append_0 16 rfl rfl)
theorem dX0_append_19 : decode cX0_append 19 = .ok (.invokevirtual 194, 3) := dk_182 0 194 (dk_at dksX0_append_0 19 rfl rfl)
theorem dX0_append_22 : decode cX0_append 22 = .ok (.bipush 60, 2) := dk_16 60 (dk_at dksX0_append_0 22 rfl rfl)
theorem dX0_append_24 : decode cX0_append 24 = .ok (.if_icmp .ne 7, 3) := dk_160 0 7 (dk_at dksX0_append_1 0 rfl rfl)
theorem dX0_append_27 : decode cX0_append 27 = .ok (.sipush (-1013), 3) := dk_17 252 11 (dk_at dksX0_append_1 3 rfl rfl)
theorem dX0_append_30 : decode cX0_append 30 = .ok (.ireturn, 1) := dk_172 (dk_at dksX0_append_1 6 rfl rfl)
theorem dX0_append_31 : decode cX0_append 31 = .ok (.aload_n 0, 1) := dk_42 (dk_at dksX0_append_1 7 rfl rfl)
theorem dX0_append_32 : decode cX0_append 32 = .ok (.getfield 25, 3) := dk_180 0 25 (dk_at dksX0_append_1 8 rfl rfl)
theorem dX0_append_35 : decode cX0_append 35 = .ok (.iload_n 1, 1) := dk_27 (dk_at dksX0_append_1 11 rfl rfl)
theorem dX0_append_36 : decode cX0_append 36 = .ok (.i2c, 1) := dk_146 (dk_at dksX0_append_1 12 rfl rfl)
theorem dX0_append_37 : decode cX0_append 37 = .ok (.invokevirtual 197, 3) := dk_182 0 197 (dk_at dksX0_append_1 13 rfl rfl)
theorem dX0_append_40 : decode cX0_append 40 = .ok (.pop, 1) := dk_87 (dk_at dksX0_append_1 16 rfl rfl)
theorem dX0_append_41 : decode cX0_append 41 = .ok (.aload_n 0, 1) := dk_42 (dk_at dksX0_append_1 17 rfl rfl)
theorem dX0_append_42 : decode cX0_append 42 = .ok (.getfield 25, 3) := dk_180 0 25 (dk_at dksX0_append_1 18 rfl rfl)
theorem dX0_append_45 : decode cX0_append 45 = .ok (.invokevirtual 194, 3) := dk_182 0 194 (dk_at dksX0_append_1 21 rfl rfl)
theorem dX0_append_48 : decode cX0_append 48 = .ok (.ireturn, 1) := dk_172 (dk_at dksX0_append_2 0 rfl rfl)
abbrev cX0_run : ByteArray := prog_1_method_33_code
def yX0_run : MethodName := ⟨RX0, "run", "()I"⟩
def dkwX0_run_5 : List UInt8 := [180, 0, 25, 3, 182, 0, 221, 28, 172, 58, 6, 42, 180, 0, 25, 3, 182, 0, 221, 25, 6, 191]
abbrev dktX0_run_5 : List UInt8 := dkwX0_run_5 ++ []
def dkwX0_run_4 : List UInt8 := [43, 180, 0, 227, 100, 61, 42, 180, 0, 25, 3, 182, 0, 221, 28, 172, 76, 42, 43, 182, 0, 88, 61, 42]
abbrev dktX0_run_4 : List UInt8 := dkwX0_run_4 ++ dktX0_run_5
def dkwX0_run_3 : List UInt8 := [42, 25, 4, 29, 182, 0, 84, 54, 5, 42, 180, 0, 25, 3, 182, 0, 221, 21, 5, 172, 76, 17, 248, 48]
abbrev dktX0_run_3 : List UInt8 := dkwX0_run_3 ++ dktX0_run_4
def dkwX0_run_2 : List UInt8 := [3, 16, 12, 29, 184, 0, 217, 132, 3, 1, 167, 255, 221, 42, 180, 0, 35, 58, 4, 42, 44, 181, 0, 35]
abbrev dktX0_run_2 : List UInt8 := dkwX0_run_2 ++ dktX0_run_3
def dkwX0_run_1 : List UInt8 := [182, 0, 178, 154, 0, 34, 43, 182, 0, 210, 192, 0, 211, 44, 182, 0, 213, 154, 0, 7, 4, 167, 0, 4]
abbrev dktX0_run_1 : List UInt8 := dkwX0_run_1 ++ dktX0_run_2
def dkwX0_run_0 : List UInt8 := [187, 0, 201, 89, 42, 183, 0, 203, 182, 0, 206, 76, 42, 180, 0, 35, 182, 0, 76, 77, 3, 62, 43]
abbrev dktX0_run_0 : List UInt8 := dkwX0_run_0 ++ dktX0_run_1
theorem dksX0_run_0 : cX0_run.data.toList.drop 0 = dktX0_run_0 := by decide +kernel
theorem dksX0_run_1 : cX0_run.data.toList.drop 23 = dktX0_run_1 := dk_seg dksX0_run_0 23 rfl rfl
theorem dksX0_run_2 : cX0_run.data.toList.drop 47 = dktX0_run_2 := dk_seg dksX0_run_1 24 rfl rfl
theorem dksX0_run_3 : cX0_run.data.toList.drop 71 = dktX0_run_3 := dk_seg dksX0_run_2 24 rfl rfl
theorem dksX0_run_4 : cX0_run.data.toList.drop 95 = dktX0_run_4 := dk_seg dksX0_run_3 24 rfl rfl
theorem dksX0_run_5 : cX0_run.data.toList.drop 119 = dktX0_run_5 := dk_seg dksX0_run_4 24 rfl rfl
theorem dX0_run_0 : decode cX0_run 0 = .ok (.new 201, 3) := dk_187 0 201 (dk_at dksX0_run_0 0 rfl rfl)
theorem dX0_run_3 : decode cX0_run 3 = .ok (.dup, 1) := dk_89 (dk_at dksX0_run_0 3 rfl rfl)
theorem dX0_run_4 : decode cX0_run 4 = .ok (.aload_n 0, 1) := dk_42 (dk_at dksX0_run_0 4 rfl rfl)
theorem dX0_run_5 : decode cX0_run 5 = .ok (.invokespecial 203, 3) := dk_183 0 203 (dk_at dksX0_run_0 5 rfl rfl)
theorem dX0_run_8 : decode cX0_run 8 = .ok (.invokevirtual 206, 3) := dk_182 0 206 (dk_at dksX0_run_0 8 rfl rfl)
theorem dX0_run_11 : decode cX0_run 11 = .ok (.astore_n 1, 1) := dk_76 (dk_at dksX0_run_0 11 rfl rfl)
theorem dX0_run_12 : decode cX0_run 12 = .ok (.aload_n 0, 1) := dk_42 (dk_at dksX0_run_0 12 rfl rfl)
theorem dX0_run_13 : decode cX0_run 13 = .ok (.getfield 35, 3) := dk_180 0 35 (dk_at dksX0_run_0 13 rfl rfl)
theorem dX0_run_16 : decode cX0_run 16 = .ok (.invokevirtual 76, 3) := dk_182 0 76 (dk_at dksX0_run_0 16 rfl rfl)
theorem dX0_run_19 : decode cX0_run 19 = .ok (.astore_n 2, 1) := dk_77 (dk_at dksX0_run_0 19 rfl rfl)
theorem dX0_run_20 : decode cX0_run 20 = .ok (.iconst 0, 1) := dk_3 (dk_at dksX0_run_0 20 rfl rfl)
theorem dX0_run_21 : decode cX0_run 21 = .ok (.istore_n 3, 1) := dk_62 (dk_at dksX0_run_0 21 rfl rfl)
theorem dX0_run_22 : decode cX0_run 22 = .ok (.aload_n 1, 1) := dk_43 (dk_at dksX0_run_0 22 rfl rfl)
theorem dX0_run_23 : decode cX0_run 23 = .ok (.invokevirtual 178, 3) := dk_182 0 178 (dk_at dksX0_run_1 0 rfl rfl)
theorem dX0_run_26 : decode cX0_run 26 = .ok (.ifCond .ne 34, 3) := dk_154 0 34 (dk_at dksX0_run_1 3 rfl rfl)
theorem dX0_run_29 : decode cX0_run 29 = .ok (.aload_n 1, 1) := dk_43 (dk_at dksX0_run_1 6 rfl rfl)
theorem dX0_run_30 : decode cX0_run 30 = .ok (.invokevirtual 210, 3) := dk_182 0 210 (dk_at dksX0_run_1 7 rfl rfl)
theorem dX0_run_33 : decode cX0_run 33 = .ok (.checkcast 211, 3) := dk_192 0 211 (dk_at dksX0_run_1 10 rfl rfl)
theorem dX0_run_36 : decode cX0_run 36 = .ok (.aload_n 2, 1) := dk_44 (dk_at dksX0_run_1 13 rfl rfl)
theorem dX0_run_37 : decode cX0_run 37 = .ok (.invokevirtual 213, 3) := dk_182 0 213 (dk_at dksX0_run_1 14 rfl rfl)
theorem dX0_run_40 : decode cX0_run 40 = .ok (.ifCond .ne 7, 3) := dk_154 0 7 (dk_at dksX0_run_1 17 rfl rfl)
theorem dX0_run_43 : decode cX0_run 43 = .ok (.iconst 1, 1) := dk_4 (dk_at dksX0_run_1 20 rfl rfl)
theorem dX0_run_44 : decode cX0_run 44 = .ok (.goto 4, 3) := dk_167 0 4 (dk_at dksX0_run_1 21 rfl rfl)
theorem dX0_run_47 : decode cX0_run 47 = .ok (.iconst 0, 1) := dk_3 (dk_at dksX0_run_2 0 rfl rfl)
theorem dX0_run_48 : decode cX0_run 48 = .ok (.bipush 12, 2) := dk_16 12 (dk_at dksX0_run_2 1 rfl rfl)
theorem dX0_run_50 : decode cX0_run 50 = .ok (.iload_n 3, 1) := dk_29 (dk_at dksX0_run_2 3 rfl rfl)
theorem dX0_run_51 : decode cX0_run 51 = .ok (.invokestatic 217, 3) := dk_184 0 217 (dk_at dksX0_run_2 4 rfl rfl)
theorem dX0_run_54 : decode cX0_run 54 = .ok (.iinc 3 1, 3) := dk_132 3 1 (dk_at dksX0_run_2 7 rfl rfl)
theorem dX0_run_57 : decode cX0_run 57 = .ok (.goto (-35), 3) := dk_167 255 221 (dk_at dksX0_run_2 10 rfl rfl)
theorem dX0_run_60 : decode cX0_run 60 = .ok (.aload_n 0, 1) := dk_42 (dk_at dksX0_run_2 13 rfl rfl)
theorem dX0_run_61 : decode cX0_run 61 = .ok (.getfield 35, 3) := dk_180 0 35 (dk_at dksX0_run_2 14 rfl rfl)
theorem dX0_run_64 : decode cX0_run 64 = .ok (.astore 4, 2) := dk_58 4 (dk_at dksX0_run_2 17 rfl rfl)
theorem dX0_run_66 : decode cX0_run 66 = .ok (.aload_n 0, 1) := dk_42 (dk_at dksX0_run_2 19 rfl rfl)
theorem dX0_run_67 : decode cX0_run 67 = .ok (.aload_n 2, 1) := dk_44 (dk_at dksX0_run_2 20 rfl rfl)
theorem dX0_run_68 : decode cX0_run 68 = .ok (.putfield 35, 3) := dk_181 0 35 (dk_at dksX0_run_2 21 rfl rfl)
theorem dX0_run_71 : decode cX0_run 71 = .ok (.aload_n 0, 1) := dk_42 (dk_at dksX0_run_3 0 rfl rfl)
theorem dX0_run_72 : decode cX0_run 72 = .ok (.aload 4, 2) := dk_25 4 (dk_at dksX0_run_3 1 rfl rfl)
theorem dX0_run_74 : decode cX0_run 74 = .ok (.iload_n 3, 1) := dk_29 (dk_at dksX0_run_3 3 rfl rfl)
theorem dX0_run_75 : decode cX0_run 75 = .ok (.invokevirtual 84, 3) := dk_182 0 84 (dk_at dksX0_run_3 4 rfl rfl)
theorem dX0_run_78 : decode cX0_run 78 = .ok (.istore 5, 2) := dk_54 5 (dk_at dksX0_run_3 7 rfl rfl)
theorem dX0_run_80 : decode cX0_run 80 = .ok (.aload_n 0, 1) := dk_42 (dk_at dksX0_run_3 9 rfl rfl)
theorem dX0_run_81 : decode cX0_run 81 = .ok (.getfield 25, 3) := dk_180 0 25 (dk_at dksX0_run_3 10 rfl rfl)
theorem dX0_run_84 : decode cX0_run 84 = .ok (.iconst 0, 1) := dk_3 (dk_at dksX0_run_3 13 rfl rfl)
theorem dX0_run_85 : decode cX0_run 85 = .ok (.invokevirtual 221, 3) := dk_182 0 221 (dk_at dksX0_run_3 14 rfl rfl)
theorem dX0_run_88 : decode cX0_run 88 = .ok (.iload 5, 2) := dk_21 5 (dk_at dksX0_run_3 17 rfl rfl)
theorem dX0_run_90 : decode cX0_run 90 = .ok (.ireturn, 1) := dk_172 (dk_at dksX0_run_3 19 rfl rfl)
theorem dX0_run_91 : decode cX0_run 91 = .ok (.astore_n 1, 1) := dk_76 (dk_at dksX0_run_3 20 rfl rfl)
theorem dX0_run_92 : decode cX0_run 92 = .ok (.sipush (-2000), 3) := dk_17 248 48 (dk_at dksX0_run_3 21 rfl rfl)
theorem dX0_run_95 : decode cX0_run 95 = .ok (.aload_n 1, 1) := dk_43 (dk_at dksX0_run_4 0 rfl rfl)
theorem dX0_run_96 : decode cX0_run 96 = .ok (.getfield 227, 3) := dk_180 0 227 (dk_at dksX0_run_4 1 rfl rfl)
theorem dX0_run_99 : decode cX0_run 99 = .ok (.isub, 1) := dk_100 (dk_at dksX0_run_4 4 rfl rfl)
theorem dX0_run_100 : decode cX0_run 100 = .ok (.istore_n 2, 1) := dk_61 (dk_at dksX0_run_4 5 rfl rfl)
theorem dX0_run_101 : decode cX0_run 101 = .ok (.aload_n 0, 1) := dk_42 (dk_at dksX0_run_4 6 rfl rfl)
theorem dX0_run_102 : decode cX0_run 102 = .ok (.getfield 25, 3) := dk_180 0 25 (dk_at dksX0_run_4 7 rfl rfl)
theorem dX0_run_105 : decode cX0_run 105 = .ok (.iconst 0, 1) := dk_3 (dk_at dksX0_run_4 10 rfl rfl)
theorem dX0_run_106 : decode cX0_run 106 = .ok (.invokevirtual 221, 3) := dk_182 0 221 (dk_at dksX0_run_4 11 rfl rfl)
theorem dX0_run_109 : decode cX0_run 109 = .ok (.iload_n 2, 1) := dk_28 (dk_at dksX0_run_4 14 rfl rfl)
theorem dX0_run_110 : decode cX0_run 110 = .ok (.ireturn, 1) := dk_172 (dk_at dksX0_run_4 15 rfl rfl)
theorem dX0_run_111 : decode cX0_run 111 = .ok (.astore_n 1, 1) := dk_76 (dk_at dksX0_run_4 16 rfl rfl)
theorem dX0_run_112 : decode cX0_run 112 = .ok (.aload_n 0, 1) := dk_42 (dk_at dksX0_run_4 17 rfl rfl)
theorem dX0_run_113 : decode cX0_run 113 = .ok (.aload_n 1, 1) := dk_43 (dk_at dksX0_run_4 18 rfl rfl)
theorem dX0_run_114 : decode cX0_run 114 = .ok (.invokevirtual 88, 3) := dk_182 0 88 (dk_at dksX0_run_4 19 rfl rfl)
theorem dX0_run_117 : decode cX0_run 117 = .ok (.istore_n 2, 1) := dk_61 (dk_at dksX0_run_4 22 rfl rfl)
theorem dX0_run_118 : decode cX0_run 118 = .ok (.aload_n 0, 1) := dk_42 (dk_at dksX0_run_4 23 rfl rfl)
theorem dX0_run_119 : decode cX0_run 119 = .ok (.getfield 25, 3) := dk_180 0 25 (dk_at dksX0_run_5 0 rfl rfl)
theorem dX0_run_122 : decode cX0_run 122 = .ok (.iconst 0, 1) := dk_3 (dk_at dksX0_run_5 3 rfl rfl)
theorem dX0_run_123 : decode cX0_run 123 = .ok (.invokevirtual 221, 3) := dk_182 0 221 (dk_at dksX0_run_5 4 rfl rfl)
theorem dX0_run_126 : decode cX0_run 126 = .ok (.iload_n 2, 1) := dk_28 (dk_at dksX0_run_5 7 rfl rfl)
theorem dX0_run_127 : decode cX0_run 127 = .ok (.ireturn, 1) := dk_172 (dk_at dksX0_run_5 8 rfl rfl)
theorem dX0_run_128 : decode cX0_run 128 = .ok (.astore 6, 2) := dk_58 6 (dk_at dksX0_run_5 9 rfl rfl)
theorem dX0_run_130 : decode cX0_run 130 = .ok (.aload_n 0, 1) := dk_42 (dk_at dksX0_run_5 11 rfl rfl)
theorem dX0_run_131 : decode cX0_run 131 = .ok (.getfield 25, 3) := dk_180 0 25 (dk_at dksX0_run_5 12 rfl rfl)
theorem dX0_run_134 : decode cX0_run 134 = .ok (.iconst 0, 1) := dk_3 (dk_at dksX0_run_5 15 rfl rfl)
theorem dX0_run_135 : decode cX0_run 135 = .ok (.invokevirtual 221, 3) := dk_182 0 221 (dk_at dksX0_run_5 16 rfl rfl)
theorem dX0_run_138 : decode cX0_run 138 = .ok (.aload 6, 2) := dk_25 6 (dk_at dksX0_run_5 19 rfl rfl)
theorem dX0_run_140 : decode cX0_run 140 = .ok (.athrow, 1) := dk_191 (dk_at dksX0_run_5 21 rfl rfl)
abbrev cX0_tell : ByteArray := prog_1_method_34_code
def yX0_tell : MethodName := ⟨RX0, "tell", "(I)I"⟩
def dkwX0_tell_2 : List UInt8 := [182, 0, 236, 181, 0, 31, 42, 180, 0, 31, 182, 0, 239, 172]
abbrev dktX0_tell_2 : List UInt8 := dkwX0_tell_2 ++ []
def dkwX0_tell_1 : List UInt8 := [182, 0, 126, 192, 0, 233, 27, 42, 180, 0, 35, 180, 0, 235, 27, 160, 0, 7, 4, 167, 0, 4, 3]
abbrev dktX0_tell_1 : List UInt8 := dkwX0_tell_1 ++ dktX0_tell_2
def dkwX0_tell_0 : List UInt8 := [42, 180, 0, 35, 27, 182, 0, 106, 154, 0, 7, 17, 252, 13, 172, 42, 42, 180, 0, 35, 180, 0, 230, 27]
abbrev dktX0_tell_0 : List UInt8 := dkwX0_tell_0 ++ dktX0_tell_1
theorem dksX0_tell_0 : cX0_tell.data.toList.drop 0 = dktX0_tell_0 := by decide +kernel
theorem dksX0_tell_1 : cX0_tell.data.toList.drop 24 = dktX0_tell_1 := dk_seg dksX0_tell_0 24 rfl rfl
theorem dksX0_tell_2 : cX0_tell.data.toList.drop 47 = dktX0_tell_2 := dk_seg dksX0_tell_1 23 rfl rfl
theorem dX0_tell_0 : decode cX0_tell 0 = .ok (.aload_n 0, 1) := dk_42 (dk_at dksX0_tell_0 0 rfl rfl)
theorem dX0_tell_1 : decode cX0_tell 1 = .ok (.getfield 35, 3) := dk_180 0 35 (dk_at dksX0_tell_0 1 rfl rfl)
theorem dX0_tell_4 : decode cX0_tell 4 = .ok (.iload_n 1, 1) := dk_27 (dk_at dksX0_tell_0 4 rfl rfl)
theorem dX0_tell_5 : decode cX0_tell 5 = .ok (.invokevirtual 106, 3) := dk_182 0 106 (dk_at dksX0_tell_0 5 rfl rfl)
theorem dX0_tell_8 : decode cX0_tell 8 = .ok (.ifCond .ne 7, 3) := dk_154 0 7 (dk_at dksX0_tell_0 8 rfl rfl)
theorem dX0_tell_11 : decode cX0_tell 11 = .ok (.sipush (-1011), 3) := dk_17 252 13 (dk_at dksX0_tell_0 11 rfl rfl)
theorem dX0_tell_14 : decode cX0_tell 14 = .ok (.ireturn, 1) := dk_172 (dk_at dksX0_tell_0 14 rfl rfl)
theorem dX0_tell_15 : decode cX0_tell 15 = .ok (.aload_n 0, 1) := dk_42 (dk_at dksX0_tell_0 15 rfl rfl)
theorem dX0_tell_16 : decode cX0_tell 16 = .ok (.aload_n 0, 1) := dk_42 (dk_at dksX0_tell_0 16 rfl rfl)
theorem dX0_tell_17 : decode cX0_tell 17 = .ok (.getfield 35, 3) := dk_180 0 35 (dk_at dksX0_tell_0 17 rfl rfl)
theorem dX0_tell_20 : decode cX0_tell 20 = .ok (.getfield 230, 3) := dk_180 0 230 (dk_at dksX0_tell_0 20 rfl rfl)
theorem dX0_tell_23 : decode cX0_tell 23 = .ok (.iload_n 1, 1) := dk_27 (dk_at dksX0_tell_0 23 rfl rfl)
theorem dX0_tell_24 : decode cX0_tell 24 = .ok (.invokevirtual 126, 3) := dk_182 0 126 (dk_at dksX0_tell_1 0 rfl rfl)
theorem dX0_tell_27 : decode cX0_tell 27 = .ok (.checkcast 233, 3) := dk_192 0 233 (dk_at dksX0_tell_1 3 rfl rfl)
theorem dX0_tell_30 : decode cX0_tell 30 = .ok (.iload_n 1, 1) := dk_27 (dk_at dksX0_tell_1 6 rfl rfl)
theorem dX0_tell_31 : decode cX0_tell 31 = .ok (.aload_n 0, 1) := dk_42 (dk_at dksX0_tell_1 7 rfl rfl)
theorem dX0_tell_32 : decode cX0_tell 32 = .ok (.getfield 35, 3) := dk_180 0 35 (dk_at dksX0_tell_1 8 rfl rfl)
theorem dX0_tell_35 : decode cX0_tell 35 = .ok (.getfield 235, 3) := dk_180 0 235 (dk_at dksX0_tell_1 11 rfl rfl)
theorem dX0_tell_38 : decode cX0_tell 38 = .ok (.iload_n 1, 1) := dk_27 (dk_at dksX0_tell_1 14 rfl rfl)
theorem dX0_tell_39 : decode cX0_tell 39 = .ok (.if_icmp .ne 7, 3) := dk_160 0 7 (dk_at dksX0_tell_1 15 rfl rfl)
theorem dX0_tell_42 : decode cX0_tell 42 = .ok (.iconst 1, 1) := dk_4 (dk_at dksX0_tell_1 18 rfl rfl)
theorem dX0_tell_43 : decode cX0_tell 43 = .ok (.goto 4, 3) := dk_167 0 4 (dk_at dksX0_tell_1 19 rfl rfl)
theorem dX0_tell_46 : decode cX0_tell 46 = .ok (.iconst 0, 1) := dk_3 (dk_at dksX0_tell_1 22 rfl rfl)
theorem dX0_tell_47 : decode cX0_tell 47 = .ok (.invokevirtual 236, 3) := dk_182 0 236 (dk_at dksX0_tell_2 0 rfl rfl)
theorem dX0_tell_50 : decode cX0_tell 50 = .ok (.putfield 31, 3) := dk_181 0 31 (dk_at dksX0_tell_2 3 rfl rfl)
theorem dX0_tell_53 : decode cX0_tell 53 = .ok (.aload_n 0, 1) := dk_42 (dk_at dksX0_tell_2 6 rfl rfl)
theorem dX0_tell_54 : decode cX0_tell 54 = .ok (.getfield 31, 3) := dk_180 0 31 (dk_at dksX0_tell_2 7 rfl rfl)
theorem dX0_tell_57 : decode cX0_tell 57 = .ok (.invokevirtual 239, 3) := dk_182 0 239 (dk_at dksX0_tell_2 10 rfl rfl)
theorem dX0_tell_60 : decode cX0_tell 60 = .ok (.ireturn, 1) := dk_172 (dk_at dksX0_tell_2 13 rfl rfl)
abbrev cX0_tellDoor : ByteArray := prog_1_method_35_code
def yX0_tellDoor : MethodName := ⟨RX0, "tellDoor", "(I)I"⟩
def dkwX0_tellDoor_1 : List UInt8 := [182, 0, 126, 192, 0, 132, 27, 182, 0, 242, 181, 0, 31, 42, 180, 0, 31, 182, 0, 239, 172]
abbrev dktX0_tellDoor_1 : List UInt8 := dkwX0_tellDoor_1 ++ []
def dkwX0_tellDoor_0 : List UInt8 := [42, 180, 0, 35, 27, 182, 0, 119, 154, 0, 7, 17, 252, 13, 172, 42, 42, 180, 0, 35, 180, 0, 122, 27]
abbrev dktX0_tellDoor_0 : List UInt8 := dkwX0_tellDoor_0 ++ dktX0_tellDoor_1
theorem dksX0_tellDoor_0 : cX0_tellDoor.data.toList.drop 0 = dktX0_tellDoor_0 := by decide +kernel
theorem dksX0_tellDoor_1 : cX0_tellDoor.data.toList.drop 24 = dktX0_tellDoor_1 := dk_seg dksX0_tellDoor_0 24 rfl rfl
theorem dX0_tellDoor_0 : decode cX0_tellDoor 0 = .ok (.aload_n 0, 1) := dk_42 (dk_at dksX0_tellDoor_0 0 rfl rfl)
theorem dX0_tellDoor_1 : decode cX0_tellDoor 1 = .ok (.getfield 35, 3) := dk_180 0 35 (dk_at dksX0_tellDoor_0 1 rfl rfl)
theorem dX0_tellDoor_4 : decode cX0_tellDoor 4 = .ok (.iload_n 1, 1) := dk_27 (dk_at dksX0_tellDoor_0 4 rfl rfl)
theorem dX0_tellDoor_5 : decode cX0_tellDoor 5 = .ok (.invokevirtual 119, 3) := dk_182 0 119 (dk_at dksX0_tellDoor_0 5 rfl rfl)
theorem dX0_tellDoor_8 : decode cX0_tellDoor 8 = .ok (.ifCond .ne 7, 3) := dk_154 0 7 (dk_at dksX0_tellDoor_0 8 rfl rfl)
theorem dX0_tellDoor_11 : decode cX0_tellDoor 11 = .ok (.sipush (-1011), 3) := dk_17 252 13 (dk_at dksX0_tellDoor_0 11 rfl rfl)
theorem dX0_tellDoor_14 : decode cX0_tellDoor 14 = .ok (.ireturn, 1) := dk_172 (dk_at dksX0_tellDoor_0 14 rfl rfl)
theorem dX0_tellDoor_15 : decode cX0_tellDoor 15 = .ok (.aload_n 0, 1) := dk_42 (dk_at dksX0_tellDoor_0 15 rfl rfl)
theorem dX0_tellDoor_16 : decode cX0_tellDoor 16 = .ok (.aload_n 0, 1) := dk_42 (dk_at dksX0_tellDoor_0 16 rfl rfl)
theorem dX0_tellDoor_17 : decode cX0_tellDoor 17 = .ok (.getfield 35, 3) := dk_180 0 35 (dk_at dksX0_tellDoor_0 17 rfl rfl)
theorem dX0_tellDoor_20 : decode cX0_tellDoor 20 = .ok (.getfield 122, 3) := dk_180 0 122 (dk_at dksX0_tellDoor_0 20 rfl rfl)
theorem dX0_tellDoor_23 : decode cX0_tellDoor 23 = .ok (.iload_n 1, 1) := dk_27 (dk_at dksX0_tellDoor_0 23 rfl rfl)
theorem dX0_tellDoor_24 : decode cX0_tellDoor 24 = .ok (.invokevirtual 126, 3) := dk_182 0 126 (dk_at dksX0_tellDoor_1 0 rfl rfl)
theorem dX0_tellDoor_27 : decode cX0_tellDoor 27 = .ok (.checkcast 132, 3) := dk_192 0 132 (dk_at dksX0_tellDoor_1 3 rfl rfl)
theorem dX0_tellDoor_30 : decode cX0_tellDoor 30 = .ok (.iload_n 1, 1) := dk_27 (dk_at dksX0_tellDoor_1 6 rfl rfl)
theorem dX0_tellDoor_31 : decode cX0_tellDoor 31 = .ok (.invokevirtual 242, 3) := dk_182 0 242 (dk_at dksX0_tellDoor_1 7 rfl rfl)
theorem dX0_tellDoor_34 : decode cX0_tellDoor 34 = .ok (.putfield 31, 3) := dk_181 0 31 (dk_at dksX0_tellDoor_1 10 rfl rfl)
theorem dX0_tellDoor_37 : decode cX0_tellDoor 37 = .ok (.aload_n 0, 1) := dk_42 (dk_at dksX0_tellDoor_1 13 rfl rfl)
theorem dX0_tellDoor_38 : decode cX0_tellDoor 38 = .ok (.getfield 31, 3) := dk_180 0 31 (dk_at dksX0_tellDoor_1 14 rfl rfl)
theorem dX0_tellDoor_41 : decode cX0_tellDoor 41 = .ok (.invokevirtual 239, 3) := dk_182 0 239 (dk_at dksX0_tellDoor_1 17 rfl rfl)
theorem dX0_tellDoor_44 : decode cX0_tellDoor 44 = .ok (.ireturn, 1) := dk_172 (dk_at dksX0_tellDoor_1 20 rfl rfl)
abbrev cX0_character : ByteArray := prog_1_method_36_code
def yX0_character : MethodName := ⟨RX0, "character", "(I)I"⟩
def dkwX0_character_1 : List UInt8 := [182, 0, 245, 167, 0, 6, 17, 252, 13, 172]
abbrev dktX0_character_1 : List UInt8 := dkwX0_character_1 ++ []
def dkwX0_character_0 : List UInt8 := [27, 3, 42, 180, 0, 31, 182, 0, 239, 4, 100, 184, 0, 39, 153, 0, 14, 42, 180, 0, 31, 27]
abbrev dktX0_character_0 : List UInt8 := dkwX0_character_0 ++ dktX0_character_1
theorem dksX0_character_0 : cX0_character.data.toList.drop 0 = dktX0_character_0 := by decide +kernel
theorem dksX0_character_1 : cX0_character.data.toList.drop 22 = dktX0_character_1 := dk_seg dksX0_character_0 22 rfl rfl
theorem dX0_character_0 : decode cX0_character 0 = .ok (.iload_n 1, 1) := dk_27 (dk_at dksX0_character_0 0 rfl rfl)
theorem dX0_character_1 : decode cX0_character 1 = .ok (.iconst 0, 1) := dk_3 (dk_at dksX0_character_0 1 rfl rfl)
theorem dX0_character_2 : decode cX0_character 2 = .ok (.aload_n 0, 1) := dk_42 (dk_at dksX0_character_0 2 rfl rfl)
theorem dX0_character_3 : decode cX0_character 3 = .ok (.getfield 31, 3) := dk_180 0 31 (dk_at dksX0_character_0 3 rfl rfl)
theorem dX0_character_6 : decode cX0_character 6 = .ok (.invokevirtual 239, 3) := dk_182 0 239 (dk_at dksX0_character_0 6 rfl rfl)
theorem dX0_character_9 : decode cX0_character 9 = .ok (.iconst 1, 1) := dk_4 (dk_at dksX0_character_0 9 rfl rfl)
theorem dX0_character_10 : decode cX0_character 10 = .ok (.isub, 1) := dk_100 (dk_at dksX0_character_0 10 rfl rfl)
theorem dX0_character_11 : decode cX0_character 11 = .ok (.invokestatic 39, 3) := dk_184 0 39 (dk_at dksX0_character_0 11 rfl rfl)
theorem dX0_character_14 : decode cX0_character 14 = .ok (.ifCond .eq 14, 3) := dk_153 0 14 (dk_at dksX0_character_0 14 rfl rfl)
theorem dX0_character_17 : decode cX0_character 17 = .ok (.aload_n 0, 1) := dk_42 (dk_at dksX0_character_0 17 rfl rfl)
theorem dX0_character_18 : decode cX0_character 18 = .ok (.getfield 31, 3) := dk_180 0 31 (dk_at dksX0_character_0 18 rfl rfl)
theorem dX0_character_21 : decode cX0_character 21 = .ok (.iload_n 1, 1) := dk_27 (dk_at dksX0_character_0 21 rfl rfl)
theorem dX0_character_22 : decode cX0_character 22 = .ok (.invokevirtual 245, 3) := dk_182 0 245 (dk_at dksX0_character_1 0 rfl rfl)
theorem dX0_character_25 : decode cX0_character 25 = .ok (.goto 6, 3) := dk_167 0 6 (dk_at dksX0_character_1 3 rfl rfl)
theorem dX0_character_28 : decode cX0_character 28 = .ok (.sipush (-1011), 3) := dk_17 252 13 (dk_at dksX0_character_1 6 rfl rfl)
theorem dX0_character_31 : decode cX0_character 31 = .ok (.ireturn, 1) := dk_172 (dk_at dksX0_character_1 9 rfl rfl)
abbrev cX0_reason : ByteArray := prog_1_method_37_code
def yX0_reason : MethodName := ⟨RX0, "reason", "(Z)I"⟩
def dkwX0_reason_1 : List UInt8 := [42, 180, 0, 56, 172]
abbrev dktX0_reason_1 : List UInt8 := dkwX0_reason_1 ++ []
def dkwX0_reason_0 : List UInt8 := [42, 180, 0, 56, 154, 0, 9, 17, 252, 9, 167, 0, 18, 27, 153, 0, 10, 42, 180, 0, 60, 167, 0, 7]
abbrev dktX0_reason_0 : List UInt8 := dkwX0_reason_0 ++ dktX0_reason_1
theorem dksX0_reason_0 : cX0_reason.data.toList.drop 0 = dktX0_reason_0 := by decide +kernel
theorem dksX0_reason_1 : cX0_reason.data.toList.drop 24 = dktX0_reason_1 := dk_seg dksX0_reason_0 24 rfl rfl
theorem dX0_reason_0 : decode cX0_reason 0 = .ok (.aload_n 0, 1) := dk_42 (dk_at dksX0_reason_0 0 rfl rfl)
theorem dX0_reason_1 : decode cX0_reason 1 = .ok (.getfield 56, 3) := dk_180 0 56 (dk_at dksX0_reason_0 1 rfl rfl)
theorem dX0_reason_4 : decode cX0_reason 4 = .ok (.ifCond .ne 9, 3) := dk_154 0 9 (dk_at dksX0_reason_0 4 rfl rfl)
theorem dX0_reason_7 : decode cX0_reason 7 = .ok (.sipush (-1015), 3) := dk_17 252 9 (dk_at dksX0_reason_0 7 rfl rfl)
theorem dX0_reason_10 : decode cX0_reason 10 = .ok (.goto 18, 3) := dk_167 0 18 (dk_at dksX0_reason_0 10 rfl rfl)
theorem dX0_reason_13 : decode cX0_reason 13 = .ok (.iload_n 1, 1) := dk_27 (dk_at dksX0_reason_0 13 rfl rfl)
theorem dX0_reason_14 : decode cX0_reason 14 = .ok (.ifCond .eq 10, 3) := dk_153 0 10 (dk_at dksX0_reason_0 14 rfl rfl)
theorem dX0_reason_17 : decode cX0_reason 17 = .ok (.aload_n 0, 1) := dk_42 (dk_at dksX0_reason_0 17 rfl rfl)
theorem dX0_reason_18 : decode cX0_reason 18 = .ok (.getfield 60, 3) := dk_180 0 60 (dk_at dksX0_reason_0 18 rfl rfl)
theorem dX0_reason_21 : decode cX0_reason 21 = .ok (.goto 7, 3) := dk_167 0 7 (dk_at dksX0_reason_0 21 rfl rfl)
theorem dX0_reason_24 : decode cX0_reason 24 = .ok (.aload_n 0, 1) := dk_42 (dk_at dksX0_reason_1 0 rfl rfl)
theorem dX0_reason_25 : decode cX0_reason 25 = .ok (.getfield 56, 3) := dk_180 0 56 (dk_at dksX0_reason_1 1 rfl rfl)
theorem dX0_reason_28 : decode cX0_reason 28 = .ok (.ireturn, 1) := dk_172 (dk_at dksX0_reason_1 4 rfl rfl)
abbrev cX0_account : ByteArray := prog_1_method_38_code
def yX0_account : MethodName := ⟨RX0, "account", "(I)I"⟩
def dkwX0_account_7 : List UInt8 := [182, 0, 65, 167, 0, 6, 17, 252, 12, 172]
abbrev dktX0_account_7 : List UInt8 := dkwX0_account_7 ++ []
def dkwX0_account_6 : List UInt8 := [180, 0, 35, 180, 1, 18, 167, 0, 26, 42, 180, 0, 25, 182, 0, 194, 167, 0, 16, 42, 180, 0, 18]
abbrev dktX0_account_6 : List UInt8 := dkwX0_account_6 ++ dktX0_account_7
def dkwX0_account_5 : List UInt8 := [167, 0, 56, 42, 180, 0, 35, 180, 1, 12, 167, 0, 46, 42, 180, 0, 35, 182, 1, 15, 167, 0, 36, 42]
abbrev dktX0_account_5 : List UInt8 := dkwX0_account_5 ++ dktX0_account_6
def dkwX0_account_4 : List UInt8 := [180, 1, 3, 167, 0, 76, 42, 180, 0, 35, 182, 1, 6, 167, 0, 66, 42, 180, 0, 35, 182, 1, 9]
abbrev dktX0_account_4 : List UInt8 := dkwX0_account_4 ++ dktX0_account_5
def dkwX0_account_3 : List UInt8 := [180, 0, 35, 182, 0, 253, 167, 0, 96, 42, 180, 0, 35, 182, 1, 0, 167, 0, 86, 42, 180, 0, 35]
abbrev dktX0_account_3 : List UInt8 := dkwX0_account_3 ++ dktX0_account_4
def dkwX0_account_2 : List UInt8 := [42, 180, 0, 35, 182, 0, 249, 167, 0, 119, 42, 180, 0, 35, 180, 0, 122, 182, 0, 252, 167, 0, 106, 42]
abbrev dktX0_account_2 : List UInt8 := dkwX0_account_2 ++ dktX0_account_3
def dkwX0_account_1 : List UInt8 := [170, 0, 0, 0, 0, 0, 186, 0, 0, 0, 0, 0, 0, 0, 11, 0, 0, 0, 63, 0, 0, 0, 73, 0, 0, 0, 86, 0, 0, 0, 96, 0, 0, 0, 106, 0, 0, 0, 116, 0, 0, 0, 126, 0, 0, 0, 136, 0, 0, 0, 146, 0, 0, 0, 156, 0, 0, 0, 166, 0, 0, 0, 176]
abbrev dktX0_account_1 : List UInt8 := dkwX0_account_1 ++ dktX0_account_2
def dkwX0_account_0 : List UInt8 := [27]
abbrev dktX0_account_0 : List UInt8 := dkwX0_account_0 ++ dktX0_account_1
theorem dksX0_account_0 : cX0_account.data.toList.drop 0 = dktX0_account_0 := by decide +kernel
theorem dksX0_account_1 : cX0_account.data.toList.drop 1 = dktX0_account_1 := dk_seg dksX0_account_0 1 rfl rfl
theorem dksX0_account_2 : cX0_account.data.toList.drop 64 = dktX0_account_2 := dk_seg dksX0_account_1 63 rfl rfl
theorem dksX0_account_3 : cX0_account.data.toList.drop 88 = dktX0_account_3 := dk_seg dksX0_account_2 24 rfl rfl
theorem dksX0_account_4 : cX0_account.data.toList.drop 111 = dktX0_account_4 := dk_seg dksX0_account_3 23 rfl rfl
theorem dksX0_account_5 : cX0_account.data.toList.drop 134 = dktX0_account_5 := dk_seg dksX0_account_4 23 rfl rfl
theorem dksX0_account_6 : cX0_account.data.toList.drop 158 = dktX0_account_6 := dk_seg dksX0_account_5 24 rfl rfl
theorem dksX0_account_7 : cX0_account.data.toList.drop 181 = dktX0_account_7 := dk_seg dksX0_account_6 23 rfl rfl
theorem dX0_account_0 : decode cX0_account 0 = .ok (.iload_n 1, 1) := dk_27 (dk_at dksX0_account_0 0 rfl rfl)
theorem dX0_account_1 : decode cX0_account 1 = .ok (.tableswitch 186 0 11 #[63, 73, 86, 96, 106, 116, 126, 136, 146, 156, 166, 176], 63) := by decide +kernel
theorem dX0_account_64 : decode cX0_account 64 = .ok (.aload_n 0, 1) := dk_42 (dk_at dksX0_account_2 0 rfl rfl)
theorem dX0_account_65 : decode cX0_account 65 = .ok (.getfield 35, 3) := dk_180 0 35 (dk_at dksX0_account_2 1 rfl rfl)
theorem dX0_account_68 : decode cX0_account 68 = .ok (.invokevirtual 249, 3) := dk_182 0 249 (dk_at dksX0_account_2 4 rfl rfl)
theorem dX0_account_71 : decode cX0_account 71 = .ok (.goto 119, 3) := dk_167 0 119 (dk_at dksX0_account_2 7 rfl rfl)
theorem dX0_account_74 : decode cX0_account 74 = .ok (.aload_n 0, 1) := dk_42 (dk_at dksX0_account_2 10 rfl rfl)
theorem dX0_account_75 : decode cX0_account 75 = .ok (.getfield 35, 3) := dk_180 0 35 (dk_at dksX0_account_2 11 rfl rfl)
theorem dX0_account_78 : decode cX0_account 78 = .ok (.getfield 122, 3) := dk_180 0 122 (dk_at dksX0_account_2 14 rfl rfl)
theorem dX0_account_81 : decode cX0_account 81 = .ok (.invokevirtual 252, 3) := dk_182 0 252 (dk_at dksX0_account_2 17 rfl rfl)
theorem dX0_account_84 : decode cX0_account 84 = .ok (.goto 106, 3) := dk_167 0 106 (dk_at dksX0_account_2 20 rfl rfl)
theorem dX0_account_87 : decode cX0_account 87 = .ok (.aload_n 0, 1) := dk_42 (dk_at dksX0_account_2 23 rfl rfl)
theorem dX0_account_88 : decode cX0_account 88 = .ok (.getfield 35, 3) := dk_180 0 35 (dk_at dksX0_account_3 0 rfl rfl)
theorem dX0_account_91 : decode cX0_account 91 = .ok (.invokevirtual 253, 3) := dk_182 0 253 (dk_at dksX0_account_3 3 rfl rfl)
theorem dX0_account_94 : decode cX0_account 94 = .ok (.goto 96, 3) := dk_167 0 96 (dk_at dksX0_account_3 6 rfl rfl)
theorem dX0_account_97 : decode cX0_account 97 = .ok (.aload_n 0, 1) := dk_42 (dk_at dksX0_account_3 9 rfl rfl)
theorem dX0_account_98 : decode cX0_account 98 = .ok (.getfield 35, 3) := dk_180 0 35 (dk_at dksX0_account_3 10 rfl rfl)
theorem dX0_account_101 : decode cX0_account 101 = .ok (.invokevirtual 256, 3) := dk_182 1 0 (dk_at dksX0_account_3 13 rfl rfl)
theorem dX0_account_104 : decode cX0_account 104 = .ok (.goto 86, 3) := dk_167 0 86 (dk_at dksX0_account_3 16 rfl rfl)
theorem dX0_account_107 : decode cX0_account 107 = .ok (.aload_n 0, 1) := dk_42 (dk_at dksX0_account_3 19 rfl rfl)
theorem dX0_account_108 : decode cX0_account 108 = .ok (.getfield 35, 3) := dk_180 0 35 (dk_at dksX0_account_3 20 rfl rfl)
theorem dX0_account_111 : decode cX0_account 111 = .ok (.getfield 259, 3) := dk_180 1 3 (dk_at dksX0_account_4 0 rfl rfl)
theorem dX0_account_114 : decode cX0_account 114 = .ok (.goto 76, 3) := dk_167 0 76 (dk_at dksX0_account_4 3 rfl rfl)
theorem dX0_account_117 : decode cX0_account 117 = .ok (.aload_n 0, 1) := dk_42 (dk_at dksX0_account_4 6 rfl rfl)
theorem dX0_account_118 : decode cX0_account 118 = .ok (.getfield 35, 3) := dk_180 0 35 (dk_at dksX0_account_4 7 rfl rfl)
theorem dX0_account_121 : decode cX0_account 121 = .ok (.invokevirtual 262, 3) := dk_182 1 6 (dk_at dksX0_account_4 10 rfl rfl)
theorem dX0_account_124 : decode cX0_account 124 = .ok (.goto 66, 3) := dk_167 0 66 (dk_at dksX0_account_4 13 rfl rfl)
theorem dX0_account_127 : decode cX0_account 127 = .ok (.aload_n 0, 1) := dk_42 (dk_at dksX0_account_4 16 rfl rfl)
theorem dX0_account_128 : decode cX0_account 128 = .ok (.getfield 35, 3) := dk_180 0 35 (dk_at dksX0_account_4 17 rfl rfl)
theorem dX0_account_131 : decode cX0_account 131 = .ok (.invokevirtual 265, 3) := dk_182 1 9 (dk_at dksX0_account_4 20 rfl rfl)
theorem dX0_account_134 : decode cX0_account 134 = .ok (.goto 56, 3) := dk_167 0 56 (dk_at dksX0_account_5 0 rfl rfl)
theorem dX0_account_137 : decode cX0_account 137 = .ok (.aload_n 0, 1) := dk_42 (dk_at dksX0_account_5 3 rfl rfl)
theorem dX0_account_138 : decode cX0_account 138 = .ok (.getfield 35, 3) := dk_180 0 35 (dk_at dksX0_account_5 4 rfl rfl)
theorem dX0_account_141 : decode cX0_account 141 = .ok (.getfield 268, 3) := dk_180 1 12 (dk_at dksX0_account_5 7 rfl rfl)
theorem dX0_account_144 : decode cX0_account 144 = .ok (.goto 46, 3) := dk_167 0 46 (dk_at dksX0_account_5 10 rfl rfl)
theorem dX0_account_147 : decode cX0_account 147 = .ok (.aload_n 0, 1) := dk_42 (dk_at dksX0_account_5 13 rfl rfl)
theorem dX0_account_148 : decode cX0_account 148 = .ok (.getfield 35, 3) := dk_180 0 35 (dk_at dksX0_account_5 14 rfl rfl)
theorem dX0_account_151 : decode cX0_account 151 = .ok (.invokevirtual 271, 3) := dk_182 1 15 (dk_at dksX0_account_5 17 rfl rfl)
theorem dX0_account_154 : decode cX0_account 154 = .ok (.goto 36, 3) := dk_167 0 36 (dk_at dksX0_account_5 20 rfl rfl)
theorem dX0_account_157 : decode cX0_account 157 = .ok (.aload_n 0, 1) := dk_42 (dk_at dksX0_account_5 23 rfl rfl)
theorem dX0_account_158 : decode cX0_account 158 = .ok (.getfield 35, 3) := dk_180 0 35 (dk_at dksX0_account_6 0 rfl rfl)
theorem dX0_account_161 : decode cX0_account 161 = .ok (.getfield 274, 3) := dk_180 1 18 (dk_at dksX0_account_6 3 rfl rfl)
theorem dX0_account_164 : decode cX0_account 164 = .ok (.goto 26, 3) := dk_167 0 26 (dk_at dksX0_account_6 6 rfl rfl)
theorem dX0_account_167 : decode cX0_account 167 = .ok (.aload_n 0, 1) := dk_42 (dk_at dksX0_account_6 9 rfl rfl)
theorem dX0_account_168 : decode cX0_account 168 = .ok (.getfield 25, 3) := dk_180 0 25 (dk_at dksX0_account_6 10 rfl rfl)
theorem dX0_account_171 : decode cX0_account 171 = .ok (.invokevirtual 194, 3) := dk_182 0 194 (dk_at dksX0_account_6 13 rfl rfl)
theorem dX0_account_174 : decode cX0_account 174 = .ok (.goto 16, 3) := dk_167 0 16 (dk_at dksX0_account_6 16 rfl rfl)
theorem dX0_account_177 : decode cX0_account 177 = .ok (.aload_n 0, 1) := dk_42 (dk_at dksX0_account_6 19 rfl rfl)
theorem dX0_account_178 : decode cX0_account 178 = .ok (.getfield 18, 3) := dk_180 0 18 (dk_at dksX0_account_6 20 rfl rfl)
theorem dX0_account_181 : decode cX0_account 181 = .ok (.invokevirtual 65, 3) := dk_182 0 65 (dk_at dksX0_account_7 0 rfl rfl)
theorem dX0_account_184 : decode cX0_account 184 = .ok (.goto 6, 3) := dk_167 0 6 (dk_at dksX0_account_7 3 rfl rfl)
theorem dX0_account_187 : decode cX0_account 187 = .ok (.sipush (-1012), 3) := dk_17 252 12 (dk_at dksX0_account_7 6 rfl rfl)
theorem dX0_account_190 : decode cX0_account 190 = .ok (.ireturn, 1) := dk_172 (dk_at dksX0_account_7 9 rfl rfl)
abbrev cX0_sum : ByteArray := prog_1_method_9_code
def yX0_sum : MethodName := ⟨RX0, "sum", "([I)I"⟩
def dkwX0_sum_1 : List UInt8 := [21, 5, 96, 60, 132, 4, 1, 167, 255, 236, 27, 172]
abbrev dktX0_sum_1 : List UInt8 := dkwX0_sum_1 ++ []
def dkwX0_sum_0 : List UInt8 := [3, 60, 42, 77, 44, 190, 62, 3, 54, 4, 21, 4, 29, 162, 0, 20, 44, 21, 4, 46, 54, 5, 27]
abbrev dktX0_sum_0 : List UInt8 := dkwX0_sum_0 ++ dktX0_sum_1
theorem dksX0_sum_0 : cX0_sum.data.toList.drop 0 = dktX0_sum_0 := by decide +kernel
theorem dksX0_sum_1 : cX0_sum.data.toList.drop 23 = dktX0_sum_1 := dk_seg dksX0_sum_0 23 rfl rfl
theorem dX0_sum_0 : decode cX0_sum 0 = .ok (.iconst 0, 1) := dk_3 (dk_at dksX0_sum_0 0 rfl rfl)
theorem dX0_sum_1 : decode cX0_sum 1 = .ok (.istore_n 1, 1) := dk_60 (dk_at dksX0_sum_0 1 rfl rfl)
theorem dX0_sum_2 : decode cX0_sum 2 = .ok (.aload_n 0, 1) := dk_42 (dk_at dksX0_sum_0 2 rfl rfl)
theorem dX0_sum_3 : decode cX0_sum 3 = .ok (.astore_n 2, 1) := dk_77 (dk_at dksX0_sum_0 3 rfl rfl)
theorem dX0_sum_4 : decode cX0_sum 4 = .ok (.aload_n 2, 1) := dk_44 (dk_at dksX0_sum_0 4 rfl rfl)
theorem dX0_sum_5 : decode cX0_sum 5 = .ok (.arraylength, 1) := dk_190 (dk_at dksX0_sum_0 5 rfl rfl)
theorem dX0_sum_6 : decode cX0_sum 6 = .ok (.istore_n 3, 1) := dk_62 (dk_at dksX0_sum_0 6 rfl rfl)
theorem dX0_sum_7 : decode cX0_sum 7 = .ok (.iconst 0, 1) := dk_3 (dk_at dksX0_sum_0 7 rfl rfl)
theorem dX0_sum_8 : decode cX0_sum 8 = .ok (.istore 4, 2) := dk_54 4 (dk_at dksX0_sum_0 8 rfl rfl)
theorem dX0_sum_10 : decode cX0_sum 10 = .ok (.iload 4, 2) := dk_21 4 (dk_at dksX0_sum_0 10 rfl rfl)
theorem dX0_sum_12 : decode cX0_sum 12 = .ok (.iload_n 3, 1) := dk_29 (dk_at dksX0_sum_0 12 rfl rfl)
theorem dX0_sum_13 : decode cX0_sum 13 = .ok (.if_icmp .ge 20, 3) := dk_162 0 20 (dk_at dksX0_sum_0 13 rfl rfl)
theorem dX0_sum_16 : decode cX0_sum 16 = .ok (.aload_n 2, 1) := dk_44 (dk_at dksX0_sum_0 16 rfl rfl)
theorem dX0_sum_17 : decode cX0_sum 17 = .ok (.iload 4, 2) := dk_21 4 (dk_at dksX0_sum_0 17 rfl rfl)
theorem dX0_sum_19 : decode cX0_sum 19 = .ok (.iaload, 1) := dk_46 (dk_at dksX0_sum_0 19 rfl rfl)
theorem dX0_sum_20 : decode cX0_sum 20 = .ok (.istore 5, 2) := dk_54 5 (dk_at dksX0_sum_0 20 rfl rfl)
theorem dX0_sum_22 : decode cX0_sum 22 = .ok (.iload_n 1, 1) := dk_27 (dk_at dksX0_sum_0 22 rfl rfl)
theorem dX0_sum_23 : decode cX0_sum 23 = .ok (.iload 5, 2) := dk_21 5 (dk_at dksX0_sum_1 0 rfl rfl)
theorem dX0_sum_25 : decode cX0_sum 25 = .ok (.iadd, 1) := dk_96 (dk_at dksX0_sum_1 2 rfl rfl)
theorem dX0_sum_26 : decode cX0_sum 26 = .ok (.istore_n 1, 1) := dk_60 (dk_at dksX0_sum_1 3 rfl rfl)
theorem dX0_sum_27 : decode cX0_sum 27 = .ok (.iinc 4 1, 3) := dk_132 4 1 (dk_at dksX0_sum_1 4 rfl rfl)
theorem dX0_sum_30 : decode cX0_sum 30 = .ok (.goto (-20), 3) := dk_167 255 236 (dk_at dksX0_sum_1 7 rfl rfl)
theorem dX0_sum_33 : decode cX0_sum 33 = .ok (.iload_n 1, 1) := dk_27 (dk_at dksX0_sum_1 10 rfl rfl)
theorem dX0_sum_34 : decode cX0_sum 34 = .ok (.ireturn, 1) := dk_172 (dk_at dksX0_sum_1 11 rfl rfl)
abbrev cX0_isBalanced : ByteArray := prog_1_method_39_code
def yX0_isBalanced : MethodName := ⟨RX0, "isBalanced", "()I"⟩
def dkwX0_isBalanced_0 : List UInt8 := [42, 180, 0, 35, 182, 1, 21, 153, 0, 7, 4, 167, 0, 4, 3, 172]
abbrev dktX0_isBalanced_0 : List UInt8 := dkwX0_isBalanced_0 ++ []
theorem dksX0_isBalanced_0 : cX0_isBalanced.data.toList.drop 0 = dktX0_isBalanced_0 := by decide +kernel
theorem dX0_isBalanced_0 : decode cX0_isBalanced 0 = .ok (.aload_n 0, 1) := dk_42 (dk_at dksX0_isBalanced_0 0 rfl rfl)
theorem dX0_isBalanced_1 : decode cX0_isBalanced 1 = .ok (.getfield 35, 3) := dk_180 0 35 (dk_at dksX0_isBalanced_0 1 rfl rfl)
theorem dX0_isBalanced_4 : decode cX0_isBalanced 4 = .ok (.invokevirtual 277, 3) := dk_182 1 21 (dk_at dksX0_isBalanced_0 4 rfl rfl)
theorem dX0_isBalanced_7 : decode cX0_isBalanced 7 = .ok (.ifCond .eq 7, 3) := dk_153 0 7 (dk_at dksX0_isBalanced_0 7 rfl rfl)
theorem dX0_isBalanced_10 : decode cX0_isBalanced 10 = .ok (.iconst 1, 1) := dk_4 (dk_at dksX0_isBalanced_0 10 rfl rfl)
theorem dX0_isBalanced_11 : decode cX0_isBalanced 11 = .ok (.goto 4, 3) := dk_167 0 4 (dk_at dksX0_isBalanced_0 11 rfl rfl)
theorem dX0_isBalanced_14 : decode cX0_isBalanced 14 = .ok (.iconst 0, 1) := dk_3 (dk_at dksX0_isBalanced_0 14 rfl rfl)
theorem dX0_isBalanced_15 : decode cX0_isBalanced 15 = .ok (.ireturn, 1) := dk_172 (dk_at dksX0_isBalanced_0 15 rfl rfl)
abbrev cX0_meanOil : ByteArray := prog_1_method_40_code
def yX0_meanOil : MethodName := ⟨RX0, "meanOil", "()D"⟩
def dkwX0_meanOil_1 : List UInt8 := [27, 135, 111, 175]
abbrev dktX0_meanOil_1 : List UInt8 := dkwX0_meanOil_1 ++ []
def dkwX0_meanOil_0 : List UInt8 := [42, 180, 0, 35, 182, 0, 249, 60, 27, 154, 0, 7, 14, 167, 0, 14, 42, 180, 0, 35, 182, 1, 15, 135]
abbrev dktX0_meanOil_0 : List UInt8 := dkwX0_meanOil_0 ++ dktX0_meanOil_1
theorem dksX0_meanOil_0 : cX0_meanOil.data.toList.drop 0 = dktX0_meanOil_0 := by decide +kernel
theorem dksX0_meanOil_1 : cX0_meanOil.data.toList.drop 24 = dktX0_meanOil_1 := dk_seg dksX0_meanOil_0 24 rfl rfl
theorem dX0_meanOil_0 : decode cX0_meanOil 0 = .ok (.aload_n 0, 1) := dk_42 (dk_at dksX0_meanOil_0 0 rfl rfl)
theorem dX0_meanOil_1 : decode cX0_meanOil 1 = .ok (.getfield 35, 3) := dk_180 0 35 (dk_at dksX0_meanOil_0 1 rfl rfl)
theorem dX0_meanOil_4 : decode cX0_meanOil 4 = .ok (.invokevirtual 249, 3) := dk_182 0 249 (dk_at dksX0_meanOil_0 4 rfl rfl)
theorem dX0_meanOil_7 : decode cX0_meanOil 7 = .ok (.istore_n 1, 1) := dk_60 (dk_at dksX0_meanOil_0 7 rfl rfl)
theorem dX0_meanOil_8 : decode cX0_meanOil 8 = .ok (.iload_n 1, 1) := dk_27 (dk_at dksX0_meanOil_0 8 rfl rfl)
theorem dX0_meanOil_9 : decode cX0_meanOil 9 = .ok (.ifCond .ne 7, 3) := dk_154 0 7 (dk_at dksX0_meanOil_0 9 rfl rfl)
theorem dX0_meanOil_12 : decode cX0_meanOil 12 = .ok (.dconst 0, 1) := dk_14 (dk_at dksX0_meanOil_0 12 rfl rfl)
theorem dX0_meanOil_13 : decode cX0_meanOil 13 = .ok (.goto 14, 3) := dk_167 0 14 (dk_at dksX0_meanOil_0 13 rfl rfl)
theorem dX0_meanOil_16 : decode cX0_meanOil 16 = .ok (.aload_n 0, 1) := dk_42 (dk_at dksX0_meanOil_0 16 rfl rfl)
theorem dX0_meanOil_17 : decode cX0_meanOil 17 = .ok (.getfield 35, 3) := dk_180 0 35 (dk_at dksX0_meanOil_0 17 rfl rfl)
theorem dX0_meanOil_20 : decode cX0_meanOil 20 = .ok (.invokevirtual 271, 3) := dk_182 1 15 (dk_at dksX0_meanOil_0 20 rfl rfl)
theorem dX0_meanOil_23 : decode cX0_meanOil 23 = .ok (.i2d, 1) := dk_135 (dk_at dksX0_meanOil_0 23 rfl rfl)
theorem dX0_meanOil_24 : decode cX0_meanOil 24 = .ok (.iload_n 1, 1) := dk_27 (dk_at dksX0_meanOil_1 0 rfl rfl)
theorem dX0_meanOil_25 : decode cX0_meanOil 25 = .ok (.i2d, 1) := dk_135 (dk_at dksX0_meanOil_1 1 rfl rfl)
theorem dX0_meanOil_26 : decode cX0_meanOil 26 = .ok (.ddiv, 1) := dk_111 (dk_at dksX0_meanOil_1 2 rfl rfl)
theorem dX0_meanOil_27 : decode cX0_meanOil 27 = .ok (.dreturn, 1) := dk_175 (dk_at dksX0_meanOil_1 3 rfl rfl)
abbrev cX0_doubledShare : ByteArray := prog_1_method_41_code
def yX0_doubledShare : MethodName := ⟨RX0, "doubledShare", "()F"⟩
def dkwX0_doubledShare_1 : List UInt8 := [182, 1, 28, 134, 27, 134, 110, 174]
abbrev dktX0_doubledShare_1 : List UInt8 := dkwX0_doubledShare_1 ++ []
def dkwX0_doubledShare_0 : List UInt8 := [42, 180, 0, 35, 182, 0, 249, 60, 27, 154, 0, 7, 11, 167, 0, 17, 42, 180, 0, 35, 182, 1, 24]
abbrev dktX0_doubledShare_0 : List UInt8 := dkwX0_doubledShare_0 ++ dktX0_doubledShare_1
theorem dksX0_doubledShare_0 : cX0_doubledShare.data.toList.drop 0 = dktX0_doubledShare_0 := by decide +kernel
theorem dksX0_doubledShare_1 : cX0_doubledShare.data.toList.drop 23 = dktX0_doubledShare_1 := dk_seg dksX0_doubledShare_0 23 rfl rfl
theorem dX0_doubledShare_0 : decode cX0_doubledShare 0 = .ok (.aload_n 0, 1) := dk_42 (dk_at dksX0_doubledShare_0 0 rfl rfl)
theorem dX0_doubledShare_1 : decode cX0_doubledShare 1 = .ok (.getfield 35, 3) := dk_180 0 35 (dk_at dksX0_doubledShare_0 1 rfl rfl)
theorem dX0_doubledShare_4 : decode cX0_doubledShare 4 = .ok (.invokevirtual 249, 3) := dk_182 0 249 (dk_at dksX0_doubledShare_0 4 rfl rfl)
theorem dX0_doubledShare_7 : decode cX0_doubledShare 7 = .ok (.istore_n 1, 1) := dk_60 (dk_at dksX0_doubledShare_0 7 rfl rfl)
theorem dX0_doubledShare_8 : decode cX0_doubledShare 8 = .ok (.iload_n 1, 1) := dk_27 (dk_at dksX0_doubledShare_0 8 rfl rfl)
theorem dX0_doubledShare_9 : decode cX0_doubledShare 9 = .ok (.ifCond .ne 7, 3) := dk_154 0 7 (dk_at dksX0_doubledShare_0 9 rfl rfl)
theorem dX0_doubledShare_12 : decode cX0_doubledShare 12 = .ok (.fconst 0, 1) := dk_11 (dk_at dksX0_doubledShare_0 12 rfl rfl)
theorem dX0_doubledShare_13 : decode cX0_doubledShare 13 = .ok (.goto 17, 3) := dk_167 0 17 (dk_at dksX0_doubledShare_0 13 rfl rfl)
theorem dX0_doubledShare_16 : decode cX0_doubledShare 16 = .ok (.aload_n 0, 1) := dk_42 (dk_at dksX0_doubledShare_0 16 rfl rfl)
theorem dX0_doubledShare_17 : decode cX0_doubledShare 17 = .ok (.getfield 35, 3) := dk_180 0 35 (dk_at dksX0_doubledShare_0 17 rfl rfl)
theorem dX0_doubledShare_20 : decode cX0_doubledShare 20 = .ok (.invokevirtual 280, 3) := dk_182 1 24 (dk_at dksX0_doubledShare_0 20 rfl rfl)
theorem dX0_doubledShare_23 : decode cX0_doubledShare 23 = .ok (.invokevirtual 284, 3) := dk_182 1 28 (dk_at dksX0_doubledShare_1 0 rfl rfl)
theorem dX0_doubledShare_26 : decode cX0_doubledShare 26 = .ok (.i2f, 1) := dk_134 (dk_at dksX0_doubledShare_1 3 rfl rfl)
theorem dX0_doubledShare_27 : decode cX0_doubledShare 27 = .ok (.iload_n 1, 1) := dk_27 (dk_at dksX0_doubledShare_1 4 rfl rfl)
theorem dX0_doubledShare_28 : decode cX0_doubledShare 28 = .ok (.i2f, 1) := dk_134 (dk_at dksX0_doubledShare_1 5 rfl rfl)
theorem dX0_doubledShare_29 : decode cX0_doubledShare 29 = .ok (.fdiv, 1) := dk_110 (dk_at dksX0_doubledShare_1 6 rfl rfl)
theorem dX0_doubledShare_30 : decode cX0_doubledShare 30 = .ok (.freturn, 1) := dk_174 (dk_at dksX0_doubledShare_1 7 rfl rfl)
abbrev cX0_undo : ByteArray := prog_1_method_42_code
def yX0_undo : MethodName := ⟨RX0, "undo", "()I"⟩
def dkwX0_undo_1 : List UInt8 := [192, 0, 1, 181, 0, 35, 42, 180, 0, 18, 182, 0, 65, 172]
abbrev dktX0_undo_1 : List UInt8 := dkwX0_undo_1 ++ []
def dkwX0_undo_0 : List UInt8 := [42, 180, 0, 18, 182, 1, 33, 153, 0, 7, 17, 252, 9, 172, 42, 42, 180, 0, 18, 182, 1, 34]
abbrev dktX0_undo_0 : List UInt8 := dkwX0_undo_0 ++ dktX0_undo_1
theorem dksX0_undo_0 : cX0_undo.data.toList.drop 0 = dktX0_undo_0 := by decide +kernel
theorem dksX0_undo_1 : cX0_undo.data.toList.drop 22 = dktX0_undo_1 := dk_seg dksX0_undo_0 22 rfl rfl
theorem dX0_undo_0 : decode cX0_undo 0 = .ok (.aload_n 0, 1) := dk_42 (dk_at dksX0_undo_0 0 rfl rfl)
theorem dX0_undo_1 : decode cX0_undo 1 = .ok (.getfield 18, 3) := dk_180 0 18 (dk_at dksX0_undo_0 1 rfl rfl)
theorem dX0_undo_4 : decode cX0_undo 4 = .ok (.invokevirtual 289, 3) := dk_182 1 33 (dk_at dksX0_undo_0 4 rfl rfl)
theorem dX0_undo_7 : decode cX0_undo 7 = .ok (.ifCond .eq 7, 3) := dk_153 0 7 (dk_at dksX0_undo_0 7 rfl rfl)
theorem dX0_undo_10 : decode cX0_undo 10 = .ok (.sipush (-1015), 3) := dk_17 252 9 (dk_at dksX0_undo_0 10 rfl rfl)
theorem dX0_undo_13 : decode cX0_undo 13 = .ok (.ireturn, 1) := dk_172 (dk_at dksX0_undo_0 13 rfl rfl)
theorem dX0_undo_14 : decode cX0_undo 14 = .ok (.aload_n 0, 1) := dk_42 (dk_at dksX0_undo_0 14 rfl rfl)
theorem dX0_undo_15 : decode cX0_undo 15 = .ok (.aload_n 0, 1) := dk_42 (dk_at dksX0_undo_0 15 rfl rfl)
theorem dX0_undo_16 : decode cX0_undo 16 = .ok (.getfield 18, 3) := dk_180 0 18 (dk_at dksX0_undo_0 16 rfl rfl)
theorem dX0_undo_19 : decode cX0_undo 19 = .ok (.invokevirtual 290, 3) := dk_182 1 34 (dk_at dksX0_undo_0 19 rfl rfl)
theorem dX0_undo_22 : decode cX0_undo 22 = .ok (.checkcast 1, 3) := dk_192 0 1 (dk_at dksX0_undo_1 0 rfl rfl)
theorem dX0_undo_25 : decode cX0_undo 25 = .ok (.putfield 35, 3) := dk_181 0 35 (dk_at dksX0_undo_1 3 rfl rfl)
theorem dX0_undo_28 : decode cX0_undo 28 = .ok (.aload_n 0, 1) := dk_42 (dk_at dksX0_undo_1 6 rfl rfl)
theorem dX0_undo_29 : decode cX0_undo 29 = .ok (.getfield 18, 3) := dk_180 0 18 (dk_at dksX0_undo_1 7 rfl rfl)
theorem dX0_undo_32 : decode cX0_undo 32 = .ok (.invokevirtual 65, 3) := dk_182 0 65 (dk_at dksX0_undo_1 10 rfl rfl)
theorem dX0_undo_35 : decode cX0_undo 35 = .ok (.ireturn, 1) := dk_172 (dk_at dksX0_undo_1 13 rfl rfl)
abbrev cX0_save : ByteArray := prog_1_method_43_code
def yX0_save : MethodName := ⟨RX0, "save", "()I"⟩
def dkwX0_save_0 : List UInt8 := [42, 42, 180, 0, 35, 182, 0, 76, 181, 1, 37, 42, 180, 1, 37, 182, 0, 249, 172]
abbrev dktX0_save_0 : List UInt8 := dkwX0_save_0 ++ []
theorem dksX0_save_0 : cX0_save.data.toList.drop 0 = dktX0_save_0 := by decide +kernel
theorem dX0_save_0 : decode cX0_save 0 = .ok (.aload_n 0, 1) := dk_42 (dk_at dksX0_save_0 0 rfl rfl)
theorem dX0_save_1 : decode cX0_save 1 = .ok (.aload_n 0, 1) := dk_42 (dk_at dksX0_save_0 1 rfl rfl)
theorem dX0_save_2 : decode cX0_save 2 = .ok (.getfield 35, 3) := dk_180 0 35 (dk_at dksX0_save_0 2 rfl rfl)
theorem dX0_save_5 : decode cX0_save 5 = .ok (.invokevirtual 76, 3) := dk_182 0 76 (dk_at dksX0_save_0 5 rfl rfl)
theorem dX0_save_8 : decode cX0_save 8 = .ok (.putfield 293, 3) := dk_181 1 37 (dk_at dksX0_save_0 8 rfl rfl)
theorem dX0_save_11 : decode cX0_save 11 = .ok (.aload_n 0, 1) := dk_42 (dk_at dksX0_save_0 11 rfl rfl)
theorem dX0_save_12 : decode cX0_save 12 = .ok (.getfield 293, 3) := dk_180 1 37 (dk_at dksX0_save_0 12 rfl rfl)
theorem dX0_save_15 : decode cX0_save 15 = .ok (.invokevirtual 249, 3) := dk_182 0 249 (dk_at dksX0_save_0 15 rfl rfl)
theorem dX0_save_18 : decode cX0_save 18 = .ok (.ireturn, 1) := dk_172 (dk_at dksX0_save_0 18 rfl rfl)
abbrev cX0_restore : ByteArray := prog_1_method_44_code
def yX0_restore : MethodName := ⟨RX0, "restore", "()I"⟩
def dkwX0_restore_1 : List UInt8 := [180, 0, 18, 182, 1, 40, 42, 180, 0, 35, 182, 0, 249, 172]
abbrev dktX0_restore_1 : List UInt8 := dkwX0_restore_1 ++ []
def dkwX0_restore_0 : List UInt8 := [42, 180, 1, 37, 199, 0, 7, 17, 252, 9, 172, 42, 42, 180, 1, 37, 182, 0, 76, 181, 0, 35, 42]
abbrev dktX0_restore_0 : List UInt8 := dkwX0_restore_0 ++ dktX0_restore_1
theorem dksX0_restore_0 : cX0_restore.data.toList.drop 0 = dktX0_restore_0 := by decide +kernel
theorem dksX0_restore_1 : cX0_restore.data.toList.drop 23 = dktX0_restore_1 := dk_seg dksX0_restore_0 23 rfl rfl
theorem dX0_restore_0 : decode cX0_restore 0 = .ok (.aload_n 0, 1) := dk_42 (dk_at dksX0_restore_0 0 rfl rfl)
theorem dX0_restore_1 : decode cX0_restore 1 = .ok (.getfield 293, 3) := dk_180 1 37 (dk_at dksX0_restore_0 1 rfl rfl)
theorem dX0_restore_4 : decode cX0_restore 4 = .ok (.ifnonnull 7, 3) := dk_199 0 7 (dk_at dksX0_restore_0 4 rfl rfl)
theorem dX0_restore_7 : decode cX0_restore 7 = .ok (.sipush (-1015), 3) := dk_17 252 9 (dk_at dksX0_restore_0 7 rfl rfl)
theorem dX0_restore_10 : decode cX0_restore 10 = .ok (.ireturn, 1) := dk_172 (dk_at dksX0_restore_0 10 rfl rfl)
theorem dX0_restore_11 : decode cX0_restore 11 = .ok (.aload_n 0, 1) := dk_42 (dk_at dksX0_restore_0 11 rfl rfl)
theorem dX0_restore_12 : decode cX0_restore 12 = .ok (.aload_n 0, 1) := dk_42 (dk_at dksX0_restore_0 12 rfl rfl)
theorem dX0_restore_13 : decode cX0_restore 13 = .ok (.getfield 293, 3) := dk_180 1 37 (dk_at dksX0_restore_0 13 rfl rfl)
theorem dX0_restore_16 : decode cX0_restore 16 = .ok (.invokevirtual 76, 3) := dk_182 0 76 (dk_at dksX0_restore_0 16 rfl rfl)
theorem dX0_restore_19 : decode cX0_restore 19 = .ok (.putfield 35, 3) := dk_181 0 35 (dk_at dksX0_restore_0 19 rfl rfl)
theorem dX0_restore_22 : decode cX0_restore 22 = .ok (.aload_n 0, 1) := dk_42 (dk_at dksX0_restore_0 22 rfl rfl)
theorem dX0_restore_23 : decode cX0_restore 23 = .ok (.getfield 18, 3) := dk_180 0 18 (dk_at dksX0_restore_1 0 rfl rfl)
theorem dX0_restore_26 : decode cX0_restore 26 = .ok (.invokevirtual 296, 3) := dk_182 1 40 (dk_at dksX0_restore_1 3 rfl rfl)
theorem dX0_restore_29 : decode cX0_restore 29 = .ok (.aload_n 0, 1) := dk_42 (dk_at dksX0_restore_1 6 rfl rfl)
theorem dX0_restore_30 : decode cX0_restore 30 = .ok (.getfield 35, 3) := dk_180 0 35 (dk_at dksX0_restore_1 7 rfl rfl)
theorem dX0_restore_33 : decode cX0_restore 33 = .ok (.invokevirtual 249, 3) := dk_182 0 249 (dk_at dksX0_restore_1 10 rfl rfl)
theorem dX0_restore_36 : decode cX0_restore 36 = .ok (.ireturn, 1) := dk_172 (dk_at dksX0_restore_1 13 rfl rfl)
theorem q88 : (Jvm.Cond.initialized "ParityMaze") ∈ lw_all := lw_g (lw_at lw_m1 1 rfl) rfl
theorem q143 : (Jvm.Cond.instantiable "ParityMaze" (7 : Nat)) ∈ lw_all := lw_g (lw_at lw_m1 56 rfl) rfl
theorem q145 : (Jvm.Cond.instanceMethod ({ cls := "ParityMaze", name := "<init>", desc := "()V" } : Jvm.MethodName)) ∈ lw_all := lw_g (lw_at lw_m1 58 rfl) rfl
theorem q146 : (Jvm.Cond.code ({ cls := "ParityMaze", name := "<init>", desc := "()V" } : Jvm.MethodName) prog_1_method_1_code (1 : Nat) (Option.none : Option Jvm.ClassFile.FieldType)) ∈ lw_all := lw_g (lw_at lw_m1 59 rfl) rfl
theorem q147 : (Jvm.Cond.classLink "ParityMaze" (1 : Nat) "ParityMaze$Maze") ∈ lw_all := lw_g (lw_at lw_m1 60 rfl) rfl
theorem q149 : (Jvm.Cond.methodLinkNest "ParityMaze" (3 : Nat) ({ cls := "ParityMaze$Maze", name := "<init>", desc := "()V" } : Jvm.MethodName) "ParityMaze") ∈ lw_tbl := lw_at lw_m1 62 rfl
theorem q189 : (Jvm.Cond.fieldLinkNest "ParityMaze" (230 : Nat) "ParityMaze$Maze" "rooms" "Ljava/util/ArrayList;" "ParityMaze") ∈ lw_tbl := lw_at lw_m1 102 rfl
theorem q191 : (Jvm.Cond.fieldLinkNest "ParityMaze" (122 : Nat) "ParityMaze$Maze" "doors" "Ljava/util/ArrayList;" "ParityMaze") ∈ lw_tbl := lw_at lw_m1 104 rfl
theorem q194 : (Jvm.Cond.fieldLinkNest "ParityMaze" (235 : Nat) "ParityMaze$Maze" "at" "I" "ParityMaze") ∈ lw_tbl := lw_at lw_m1 107 rfl
theorem q197 : (Jvm.Cond.fieldLinkNest "ParityMaze" (259 : Nat) "ParityMaze$Maze" "laid" "I" "ParityMaze") ∈ lw_tbl := lw_at lw_m1 110 rfl
theorem q199 : (Jvm.Cond.fieldLinkNest "ParityMaze" (268 : Nat) "ParityMaze$Maze" "used" "I" "ParityMaze") ∈ lw_tbl := lw_at lw_m1 112 rfl
theorem q201 : (Jvm.Cond.fieldLinkNest "ParityMaze" (274 : Nat) "ParityMaze$Maze" "gone" "I" "ParityMaze") ∈ lw_tbl := lw_at lw_m1 114 rfl
theorem q220 : (Jvm.Cond.methodLink "ParityMaze" (7 : Nat) ({ cls := "ParityMaze", name := "<init>", desc := "(LParityMaze$Maze;)V" } : Jvm.MethodName)) ∈ lw_all := lw_g (lw_at lw_m1 133 rfl) rfl
theorem q221 : (Jvm.Cond.instanceMethod ({ cls := "ParityMaze", name := "<init>", desc := "(LParityMaze$Maze;)V" } : Jvm.MethodName)) ∈ lw_all := lw_g (lw_at lw_m1 134 rfl) rfl
theorem q222 : (Jvm.Cond.code ({ cls := "ParityMaze", name := "<init>", desc := "(LParityMaze$Maze;)V" } : Jvm.MethodName) prog_1_method_2_code (2 : Nat) (Option.none : Option Jvm.ClassFile.FieldType)) ∈ lw_all := lw_g (lw_at lw_m1 135 rfl) rfl
theorem q223 : (Jvm.Cond.methodLink "ParityMaze" (12 : Nat) ({ cls := "java/lang/Object", name := "<init>", desc := "()V" } : Jvm.MethodName)) ∈ lw_all := lw_g (lw_at lw_m1 136 rfl) rfl
theorem q224 : (Jvm.Cond.classLink "ParityMaze" (15 : Nat) "java/util/ArrayDeque") ∈ lw_all := lw_g (lw_at lw_m1 137 rfl) rfl
theorem q226 : (Jvm.Cond.methodLink "ParityMaze" (17 : Nat) ({ cls := "java/util/ArrayDeque", name := "<init>", desc := "()V" } : Jvm.MethodName)) ∈ lw_all := lw_g (lw_at lw_m1 139 rfl) rfl
theorem q241 : (Jvm.Cond.classLink "ParityMaze" (22 : Nat) "java/lang/StringBuilder") ∈ lw_all := lw_g (lw_at lw_m1 154 rfl) rfl
theorem q243 : (Jvm.Cond.methodLink "ParityMaze" (24 : Nat) ({ cls := "java/lang/StringBuilder", name := "<init>", desc := "()V" } : Jvm.MethodName)) ∈ lw_all := lw_g (lw_at lw_m1 156 rfl) rfl
theorem q274 : (Jvm.Cond.stringRef "ParityMaze" (29 : Nat) "") ∈ lw_tbl := lw_at lw_m1 187 rfl
theorem q275 : (Jvm.Cond.fieldLink "ParityMaze" (35 : Nat) "ParityMaze" "maze" "LParityMaze$Maze;") ∈ lw_all := lw_g (lw_at lw_m1 188 rfl) rfl
theorem q276 : (Jvm.Cond.fieldLink "ParityMaze" (293 : Nat) "ParityMaze" "saved" "LParityMaze$Maze;") ∈ lw_all := lw_g (lw_at lw_m1 189 rfl) rfl
theorem q277 : (Jvm.Cond.fieldLink "ParityMaze" (18 : Nat) "ParityMaze" "past" "Ljava/util/ArrayDeque;") ∈ lw_all := lw_g (lw_at lw_m1 190 rfl) rfl
theorem q278 : (Jvm.Cond.fieldLink "ParityMaze" (56 : Nat) "ParityMaze" "reason" "I") ∈ lw_all := lw_g (lw_at lw_m1 191 rfl) rfl
theorem q279 : (Jvm.Cond.fieldLink "ParityMaze" (60 : Nat) "ParityMaze" "detail" "I") ∈ lw_all := lw_g (lw_at lw_m1 192 rfl) rfl
theorem q281 : (Jvm.Cond.fieldLink "ParityMaze" (25 : Nat) "ParityMaze" "text" "Ljava/lang/StringBuilder;") ∈ lw_all := lw_g (lw_at lw_m1 194 rfl) rfl
theorem q282 : (Jvm.Cond.fieldLink "ParityMaze" (31 : Nat) "ParityMaze" "line" "Ljava/lang/String;") ∈ lw_all := lw_g (lw_at lw_m1 195 rfl) rfl
theorem q283 : (Jvm.Cond.lays "ParityMaze" "ParityMaze" "maze" "LParityMaze$Maze;") ∈ lw_all := lw_g (lw_at lw_m1 196 rfl) rfl
theorem q284 : (Jvm.Cond.soleField "ParityMaze" "maze") ∈ lw_all := lw_g (lw_at lw_m1 197 rfl) rfl
theorem q285 : (Jvm.Cond.lays "ParityMaze" "ParityMaze" "saved" "LParityMaze$Maze;") ∈ lw_all := lw_g (lw_at lw_m1 198 rfl) rfl
theorem q286 : (Jvm.Cond.soleField "ParityMaze" "saved") ∈ lw_all := lw_g (lw_at lw_m1 199 rfl) rfl
theorem q287 : (Jvm.Cond.laysFinal "ParityMaze" "ParityMaze" "past" "Ljava/util/ArrayDeque;") ∈ lw_all := lw_g (lw_at lw_m1 200 rfl) rfl
theorem q288 : (Jvm.Cond.soleField "ParityMaze" "past") ∈ lw_all := lw_g (lw_at lw_m1 201 rfl) rfl
theorem q289 : (Jvm.Cond.lays "ParityMaze" "ParityMaze" "reason" "I") ∈ lw_all := lw_g (lw_at lw_m1 202 rfl) rfl
theorem q290 : (Jvm.Cond.soleField "ParityMaze" "reason") ∈ lw_all := lw_g (lw_at lw_m1 203 rfl) rfl
theorem q291 : (Jvm.Cond.lays "ParityMaze" "ParityMaze" "detail" "I") ∈ lw_all := lw_g (lw_at lw_m1 204 rfl) rfl
theorem q292 : (Jvm.Cond.soleField "ParityMaze" "detail") ∈ lw_all := lw_g (lw_at lw_m1 205 rfl) rfl
theorem q293 : (Jvm.Cond.laysFinal "ParityMaze" "ParityMaze" "text" "Ljava/lang/StringBuilder;") ∈ lw_all := lw_g (lw_at lw_m1 206 rfl) rfl
theorem q294 : (Jvm.Cond.soleField "ParityMaze" "text") ∈ lw_all := lw_g (lw_at lw_m1 207 rfl) rfl
theorem q295 : (Jvm.Cond.lays "ParityMaze" "ParityMaze" "line" "Ljava/lang/String;") ∈ lw_all := lw_g (lw_at lw_m1 208 rfl) rfl
theorem q296 : (Jvm.Cond.soleField "ParityMaze" "line") ∈ lw_all := lw_g (lw_at lw_m1 209 rfl) rfl
theorem q297 : (Jvm.Cond.superclass "ParityMaze" "java/lang/Object") ∈ lw_all := lw_g (lw_at lw_m1 210 rfl) rfl
theorem q299 : (Jvm.Cond.instanceMethod ({ cls := "ParityMaze", name := "room", desc := "(I)I" } : Jvm.MethodName)) ∈ lw_all := lw_g (lw_at lw_m1 212 rfl) rfl
theorem q300 : (Jvm.Cond.selects "ParityMaze" ({ cls := "ParityMaze", name := "room", desc := "(I)I" } : Jvm.MethodName) ({ cls := "ParityMaze", name := "room", desc := "(I)I" } : Jvm.MethodName)) ∈ lw_all := lw_g (lw_at lw_m1 213 rfl) rfl
theorem q301 : (Jvm.Cond.codeWith ({ cls := "ParityMaze", name := "room", desc := "(I)I" } : Jvm.MethodName) prog_1_method_13_code (4 : Nat) (Option.some Jvm.ClassFile.FieldType.int) [((19 : Nat), (32 : Nat), (33 : Nat), (47 : Nat))]) ∈ lw_all := lw_g (lw_at lw_m1 214 rfl) rfl
theorem q302 : (Jvm.Cond.classLink "ParityMaze" (47 : Nat) "ParityMaze$Refused") ∈ lw_all := lw_g (lw_at lw_m1 215 rfl) rfl
theorem q303 : (Jvm.Cond.methodLink "ParityMaze" (73 : Nat) ({ cls := "ParityMaze", name := "isOil", desc := "(I)Z" } : Jvm.MethodName)) ∈ lw_all := lw_g (lw_at lw_m1 216 rfl) rfl
theorem q304 : (Jvm.Cond.static ({ cls := "ParityMaze", name := "isOil", desc := "(I)Z" } : Jvm.MethodName)) ∈ lw_all := lw_g (lw_at lw_m1 217 rfl) rfl
theorem q305 : (Jvm.Cond.code ({ cls := "ParityMaze", name := "isOil", desc := "(I)Z" } : Jvm.MethodName) prog_1_method_7_code (1 : Nat) (Option.some Jvm.ClassFile.FieldType.boolean)) ∈ lw_all := lw_g (lw_at lw_m1 218 rfl) rfl
theorem q306 : (Jvm.Cond.methodLink "ParityMaze" (39 : Nat) ({ cls := "ParityMaze", name := "isIn", desc := "(III)Z" } : Jvm.MethodName)) ∈ lw_all := lw_g (lw_at lw_m1 219 rfl) rfl
theorem q307 : (Jvm.Cond.static ({ cls := "ParityMaze", name := "isIn", desc := "(III)Z" } : Jvm.MethodName)) ∈ lw_all := lw_g (lw_at lw_m1 220 rfl) rfl
theorem q308 : (Jvm.Cond.code ({ cls := "ParityMaze", name := "isIn", desc := "(III)Z" } : Jvm.MethodName) prog_1_method_3_code (3 : Nat) (Option.some Jvm.ClassFile.FieldType.boolean)) ∈ lw_all := lw_g (lw_at lw_m1 221 rfl) rfl
theorem q309 : (Jvm.Cond.methodLink "ParityMaze" (76 : Nat) ({ cls := "ParityMaze$Maze", name := "copy", desc := "()LParityMaze$Maze;" } : Jvm.MethodName)) ∈ lw_all := lw_g (lw_at lw_m1 222 rfl) rfl
theorem q456 : (Jvm.Cond.selects "ParityMaze" ({ cls := "java/lang/Object", name := "getClass", desc := "()Ljava/lang/Class;" } : Jvm.MethodName) ({ cls := "java/lang/Object", name := "getClass", desc := "()Ljava/lang/Class;" } : Jvm.MethodName)) ∈ lw_all := lw_g (lw_at lw_m2 129 rfl) rfl
theorem q500 : (Jvm.Cond.methodLink "ParityMaze" (80 : Nat) ({ cls := "ParityMaze$Maze", name := "adds", desc := "(I)I" } : Jvm.MethodName)) ∈ lw_all := lw_g (lw_at lw_m2 173 rfl) rfl
theorem q513 : (Jvm.Cond.static ({ cls := "ParityMaze", name := "refuse", desc := "(ZII)V" } : Jvm.MethodName)) ∈ lw_all := lw_g (lw_at lw_m2 186 rfl) rfl
theorem q514 : (Jvm.Cond.code ({ cls := "ParityMaze", name := "refuse", desc := "(ZII)V" } : Jvm.MethodName) prog_1_method_10_code (3 : Nat) (Option.none : Option Jvm.ClassFile.FieldType)) ∈ lw_all := lw_g (lw_at lw_m2 187 rfl) rfl
theorem q552 : (Jvm.Cond.methodLink "ParityMaze" (49 : Nat) ({ cls := "ParityMaze$Refused", name := "<init>", desc := "(II)V" } : Jvm.MethodName)) ∈ lw_all := lw_g (lw_at lw_m2 225 rfl) rfl
theorem q562 : (Jvm.Cond.fieldLinkNest "ParityMaze" (52 : Nat) "ParityMaze$Refused" "reason" "I" "ParityMaze") ∈ lw_tbl := lw_at lw_m2 235 rfl
theorem q564 : (Jvm.Cond.fieldLinkNest "ParityMaze" (57 : Nat) "ParityMaze$Refused" "detail" "I" "ParityMaze") ∈ lw_tbl := lw_at lw_m2 237 rfl
theorem q585 : (Jvm.Cond.methodLink "ParityMaze" (84 : Nat) ({ cls := "ParityMaze", name := "changed", desc := "(LParityMaze$Maze;I)I" } : Jvm.MethodName)) ∈ lw_all := lw_g (lw_at lw_m3 18 rfl) rfl
theorem q586 : (Jvm.Cond.privateMethod ({ cls := "ParityMaze", name := "changed", desc := "(LParityMaze$Maze;I)I" } : Jvm.MethodName)) ∈ lw_tbl := lw_at lw_m3 19 rfl
theorem q587 : (Jvm.Cond.instanceMethod ({ cls := "ParityMaze", name := "changed", desc := "(LParityMaze$Maze;I)I" } : Jvm.MethodName)) ∈ lw_all := lw_g (lw_at lw_m3 20 rfl) rfl
theorem q588 : (Jvm.Cond.code ({ cls := "ParityMaze", name := "changed", desc := "(LParityMaze$Maze;I)I" } : Jvm.MethodName) prog_1_method_12_code (3 : Nat) (Option.some Jvm.ClassFile.FieldType.int)) ∈ lw_all := lw_g (lw_at lw_m3 21 rfl) rfl
theorem q589 : (Jvm.Cond.methodLink "ParityMaze" (61 : Nat) ({ cls := "java/util/ArrayDeque", name := "addLast", desc := "(Ljava/lang/Object;)V" } : Jvm.MethodName)) ∈ lw_all := lw_g (lw_at lw_m3 22 rfl) rfl
theorem q608 : (Jvm.Cond.methodLink "ParityMaze" (65 : Nat) ({ cls := "java/util/ArrayDeque", name := "size", desc := "()I" } : Jvm.MethodName)) ∈ lw_all := lw_g (lw_at lw_m3 41 rfl) rfl
theorem q615 : (Jvm.Cond.methodLink "ParityMaze" (69 : Nat) ({ cls := "java/util/ArrayDeque", name := "removeFirst", desc := "()Ljava/lang/Object;" } : Jvm.MethodName)) ∈ lw_all := lw_g (lw_at lw_m3 48 rfl) rfl
theorem q626 : (Jvm.Cond.methodLink "ParityMaze" (88 : Nat) ({ cls := "ParityMaze", name := "refused", desc := "(LParityMaze$Refused;)I" } : Jvm.MethodName)) ∈ lw_all := lw_g (lw_at lw_m3 59 rfl) rfl
theorem q627 : (Jvm.Cond.privateMethod ({ cls := "ParityMaze", name := "refused", desc := "(LParityMaze$Refused;)I" } : Jvm.MethodName)) ∈ lw_tbl := lw_at lw_m3 60 rfl
theorem q628 : (Jvm.Cond.instanceMethod ({ cls := "ParityMaze", name := "refused", desc := "(LParityMaze$Refused;)I" } : Jvm.MethodName)) ∈ lw_all := lw_g (lw_at lw_m3 61 rfl) rfl
theorem q629 : (Jvm.Cond.code ({ cls := "ParityMaze", name := "refused", desc := "(LParityMaze$Refused;)I" } : Jvm.MethodName) prog_1_method_11_code (2 : Nat) (Option.some Jvm.ClassFile.FieldType.int)) ∈ lw_all := lw_g (lw_at lw_m3 62 rfl) rfl
theorem q631 : (Jvm.Cond.instanceMethod ({ cls := "ParityMaze", name := "door", desc := "(IIII)I" } : Jvm.MethodName)) ∈ lw_all := lw_g (lw_at lw_m3 64 rfl) rfl
theorem q632 : (Jvm.Cond.selects "ParityMaze" ({ cls := "ParityMaze", name := "door", desc := "(IIII)I" } : Jvm.MethodName) ({ cls := "ParityMaze", name := "door", desc := "(IIII)I" } : Jvm.MethodName)) ∈ lw_all := lw_g (lw_at lw_m3 65 rfl) rfl
theorem q633 : (Jvm.Cond.codeWith ({ cls := "ParityMaze", name := "door", desc := "(IIII)I" } : Jvm.MethodName) prog_1_method_14_code (7 : Nat) (Option.some Jvm.ClassFile.FieldType.int) [((44 : Nat), (62 : Nat), (63 : Nat), (47 : Nat))]) ∈ lw_all := lw_g (lw_at lw_m3 66 rfl) rfl
theorem q634 : (Jvm.Cond.methodLink "ParityMaze" (92 : Nat) ({ cls := "ParityMaze$Maze", name := "areRooms", desc := "(II)Z" } : Jvm.MethodName)) ∈ lw_all := lw_g (lw_at lw_m3 67 rfl) rfl
theorem q643 : (Jvm.Cond.methodLink "ParityMaze" (96 : Nat) ({ cls := "ParityMaze", name := "isKind", desc := "(I)Z" } : Jvm.MethodName)) ∈ lw_all := lw_g (lw_at lw_m3 76 rfl) rfl
theorem q644 : (Jvm.Cond.static ({ cls := "ParityMaze", name := "isKind", desc := "(I)Z" } : Jvm.MethodName)) ∈ lw_all := lw_g (lw_at lw_m3 77 rfl) rfl
theorem q645 : (Jvm.Cond.code ({ cls := "ParityMaze", name := "isKind", desc := "(I)Z" } : Jvm.MethodName) prog_1_method_6_code (1 : Nat) (Option.some Jvm.ClassFile.FieldType.boolean)) ∈ lw_all := lw_g (lw_at lw_m3 78 rfl) rfl
theorem q646 : (Jvm.Cond.methodLink "ParityMaze" (99 : Nat) ({ cls := "ParityMaze", name := "isLock", desc := "(I)Z" } : Jvm.MethodName)) ∈ lw_all := lw_g (lw_at lw_m3 79 rfl) rfl
theorem q647 : (Jvm.Cond.static ({ cls := "ParityMaze", name := "isLock", desc := "(I)Z" } : Jvm.MethodName)) ∈ lw_all := lw_g (lw_at lw_m3 80 rfl) rfl
theorem q648 : (Jvm.Cond.code ({ cls := "ParityMaze", name := "isLock", desc := "(I)Z" } : Jvm.MethodName) prog_1_method_5_code (1 : Nat) (Option.some Jvm.ClassFile.FieldType.boolean)) ∈ lw_all := lw_g (lw_at lw_m3 81 rfl) rfl
theorem q649 : (Jvm.Cond.methodLink "ParityMaze" (43 : Nat) ({ cls := "ParityMaze", name := "isColour", desc := "(I)Z" } : Jvm.MethodName)) ∈ lw_all := lw_g (lw_at lw_m3 82 rfl) rfl
theorem q650 : (Jvm.Cond.static ({ cls := "ParityMaze", name := "isColour", desc := "(I)Z" } : Jvm.MethodName)) ∈ lw_all := lw_g (lw_at lw_m3 83 rfl) rfl
theorem q651 : (Jvm.Cond.code ({ cls := "ParityMaze", name := "isColour", desc := "(I)Z" } : Jvm.MethodName) prog_1_method_4_code (1 : Nat) (Option.some Jvm.ClassFile.FieldType.boolean)) ∈ lw_all := lw_g (lw_at lw_m3 84 rfl) rfl
theorem q652 : (Jvm.Cond.methodLink "ParityMaze" (102 : Nat) ({ cls := "ParityMaze$Maze", name := "builds", desc := "(IIII)I" } : Jvm.MethodName)) ∈ lw_all := lw_g (lw_at lw_m3 85 rfl) rfl
theorem q716 : (Jvm.Cond.instanceMethod ({ cls := "ParityMaze", name := "key", desc := "(II)I" } : Jvm.MethodName)) ∈ lw_all := lw_g (lw_at lw_m3 149 rfl) rfl
theorem q717 : (Jvm.Cond.selects "ParityMaze" ({ cls := "ParityMaze", name := "key", desc := "(II)I" } : Jvm.MethodName) ({ cls := "ParityMaze", name := "key", desc := "(II)I" } : Jvm.MethodName)) ∈ lw_all := lw_g (lw_at lw_m3 150 rfl) rfl
theorem q718 : (Jvm.Cond.codeWith ({ cls := "ParityMaze", name := "key", desc := "(II)I" } : Jvm.MethodName) prog_1_method_15_code (5 : Nat) (Option.some Jvm.ClassFile.FieldType.int) [((34 : Nat), (48 : Nat), (49 : Nat), (47 : Nat))]) ∈ lw_all := lw_g (lw_at lw_m3 151 rfl) rfl
theorem q719 : (Jvm.Cond.methodLink "ParityMaze" (106 : Nat) ({ cls := "ParityMaze$Maze", name := "isRoom", desc := "(I)Z" } : Jvm.MethodName)) ∈ lw_all := lw_g (lw_at lw_m3 152 rfl) rfl
theorem q720 : (Jvm.Cond.methodLink "ParityMaze" (109 : Nat) ({ cls := "ParityMaze$Maze", name := "lays", desc := "(II)I" } : Jvm.MethodName)) ∈ lw_all := lw_g (lw_at lw_m3 153 rfl) rfl
theorem q725 : (Jvm.Cond.instanceMethod ({ cls := "ParityMaze", name := "oil", desc := "(II)I" } : Jvm.MethodName)) ∈ lw_all := lw_g (lw_at lw_m3 158 rfl) rfl
theorem q726 : (Jvm.Cond.selects "ParityMaze" ({ cls := "ParityMaze", name := "oil", desc := "(II)I" } : Jvm.MethodName) ({ cls := "ParityMaze", name := "oil", desc := "(II)I" } : Jvm.MethodName)) ∈ lw_all := lw_g (lw_at lw_m3 159 rfl) rfl
theorem q727 : (Jvm.Cond.codeWith ({ cls := "ParityMaze", name := "oil", desc := "(II)I" } : Jvm.MethodName) prog_1_method_16_code (5 : Nat) (Option.some Jvm.ClassFile.FieldType.int) [((37 : Nat), (51 : Nat), (52 : Nat), (47 : Nat))]) ∈ lw_all := lw_g (lw_at lw_m3 160 rfl) rfl
theorem q728 : (Jvm.Cond.methodLink "ParityMaze" (113 : Nat) ({ cls := "ParityMaze$Maze", name := "oils", desc := "(II)I" } : Jvm.MethodName)) ∈ lw_all := lw_g (lw_at lw_m3 161 rfl) rfl
theorem q733 : (Jvm.Cond.instanceMethod ({ cls := "ParityMaze", name := "roomOf", desc := "(II)I" } : Jvm.MethodName)) ∈ lw_all := lw_g (lw_at lw_m3 166 rfl) rfl
theorem q734 : (Jvm.Cond.selects "ParityMaze" ({ cls := "ParityMaze", name := "roomOf", desc := "(II)I" } : Jvm.MethodName) ({ cls := "ParityMaze", name := "roomOf", desc := "(II)I" } : Jvm.MethodName)) ∈ lw_all := lw_g (lw_at lw_m3 167 rfl) rfl
theorem q735 : (Jvm.Cond.code ({ cls := "ParityMaze", name := "roomOf", desc := "(II)I" } : Jvm.MethodName) prog_1_method_17_code (3 : Nat) (Option.some Jvm.ClassFile.FieldType.int)) ∈ lw_all := lw_g (lw_at lw_m3 168 rfl) rfl
theorem q736 : (Jvm.Cond.methodLink "ParityMaze" (116 : Nat) ({ cls := "ParityMaze$Maze", name := "ofRoom", desc := "(II)I" } : Jvm.MethodName)) ∈ lw_all := lw_g (lw_at lw_m3 169 rfl) rfl
theorem q984 : (Jvm.Cond.selects "ParityMaze" ({ cls := "java/lang/Object", name := "hashCode", desc := "()I" } : Jvm.MethodName) ({ cls := "java/lang/Object", name := "hashCode", desc := "()I" } : Jvm.MethodName)) ∈ lw_all := lw_g (lw_at lw_m4 177 rfl) rfl
theorem q1407 : (Jvm.Cond.selects "ParityMaze" ({ cls := "java/lang/Object", name := "equals", desc := "(Ljava/lang/Object;)Z" } : Jvm.MethodName) ({ cls := "java/lang/Object", name := "equals", desc := "(Ljava/lang/Object;)Z" } : Jvm.MethodName)) ∈ lw_all := lw_g (lw_at lw_m6 120 rfl) rfl
theorem q1663 : (Jvm.Cond.instanceMethod ({ cls := "ParityMaze", name := "doorOf", desc := "(II)I" } : Jvm.MethodName)) ∈ lw_all := lw_g (lw_at lw_m7 136 rfl) rfl
theorem q1664 : (Jvm.Cond.selects "ParityMaze" ({ cls := "ParityMaze", name := "doorOf", desc := "(II)I" } : Jvm.MethodName) ({ cls := "ParityMaze", name := "doorOf", desc := "(II)I" } : Jvm.MethodName)) ∈ lw_all := lw_g (lw_at lw_m7 137 rfl) rfl
theorem q1665 : (Jvm.Cond.code ({ cls := "ParityMaze", name := "doorOf", desc := "(II)I" } : Jvm.MethodName) prog_1_method_18_code (3 : Nat) (Option.some Jvm.ClassFile.FieldType.int)) ∈ lw_all := lw_g (lw_at lw_m7 138 rfl) rfl
theorem q1666 : (Jvm.Cond.methodLink "ParityMaze" (119 : Nat) ({ cls := "ParityMaze$Maze", name := "isDoor", desc := "(I)Z" } : Jvm.MethodName)) ∈ lw_all := lw_g (lw_at lw_m7 139 rfl) rfl
theorem q1670 : (Jvm.Cond.methodLink "ParityMaze" (126 : Nat) ({ cls := "java/util/ArrayList", name := "get", desc := "(I)Ljava/lang/Object;" } : Jvm.MethodName)) ∈ lw_all := lw_g (lw_at lw_m7 143 rfl) rfl
theorem q1671 : (Jvm.Cond.classLink "ParityMaze" (132 : Nat) "ParityMaze$Door") ∈ lw_all := lw_g (lw_at lw_m7 144 rfl) rfl
theorem q1672 : (Jvm.Cond.methodLink "ParityMaze" (134 : Nat) ({ cls := "ParityMaze$Door", name := "of", desc := "(I)I" } : Jvm.MethodName)) ∈ lw_all := lw_g (lw_at lw_m7 145 rfl) rfl
theorem q1677 : (Jvm.Cond.instanceMethod ({ cls := "ParityMaze", name := "go", desc := "(I)I" } : Jvm.MethodName)) ∈ lw_all := lw_g (lw_at lw_m7 150 rfl) rfl
theorem q1678 : (Jvm.Cond.selects "ParityMaze" ({ cls := "ParityMaze", name := "go", desc := "(I)I" } : Jvm.MethodName) ({ cls := "ParityMaze", name := "go", desc := "(I)I" } : Jvm.MethodName)) ∈ lw_all := lw_g (lw_at lw_m7 151 rfl) rfl
theorem q1679 : (Jvm.Cond.codeWith ({ cls := "ParityMaze", name := "go", desc := "(I)I" } : Jvm.MethodName) prog_1_method_19_code (4 : Nat) (Option.some Jvm.ClassFile.FieldType.int) [((23 : Nat), (36 : Nat), (37 : Nat), (47 : Nat))]) ∈ lw_all := lw_g (lw_at lw_m7 152 rfl) rfl
theorem q1680 : (Jvm.Cond.methodLink "ParityMaze" (137 : Nat) ({ cls := "ParityMaze$Maze", name := "goes", desc := "(I)I" } : Jvm.MethodName)) ∈ lw_all := lw_g (lw_at lw_m7 153 rfl) rfl
theorem q1708 : (Jvm.Cond.instanceMethod ({ cls := "ParityMaze", name := "rest", desc := "(I)I" } : Jvm.MethodName)) ∈ lw_all := lw_g (lw_at lw_m7 181 rfl) rfl
theorem q1709 : (Jvm.Cond.selects "ParityMaze" ({ cls := "ParityMaze", name := "rest", desc := "(I)I" } : Jvm.MethodName) ({ cls := "ParityMaze", name := "rest", desc := "(I)I" } : Jvm.MethodName)) ∈ lw_all := lw_g (lw_at lw_m7 182 rfl) rfl
theorem q1710 : (Jvm.Cond.codeWith ({ cls := "ParityMaze", name := "rest", desc := "(I)I" } : Jvm.MethodName) prog_1_method_20_code (4 : Nat) (Option.some Jvm.ClassFile.FieldType.int) [((22 : Nat), (35 : Nat), (36 : Nat), (47 : Nat))]) ∈ lw_all := lw_g (lw_at lw_m7 183 rfl) rfl
theorem q1711 : (Jvm.Cond.methodLink "ParityMaze" (140 : Nat) ({ cls := "ParityMaze$Maze", name := "rests", desc := "(I)I" } : Jvm.MethodName)) ∈ lw_all := lw_g (lw_at lw_m7 184 rfl) rfl
theorem q1720 : (Jvm.Cond.instanceMethod ({ cls := "ParityMaze", name := "take", desc := "(I)I" } : Jvm.MethodName)) ∈ lw_all := lw_g (lw_at lw_m7 193 rfl) rfl
theorem q1721 : (Jvm.Cond.selects "ParityMaze" ({ cls := "ParityMaze", name := "take", desc := "(I)I" } : Jvm.MethodName) ({ cls := "ParityMaze", name := "take", desc := "(I)I" } : Jvm.MethodName)) ∈ lw_all := lw_g (lw_at lw_m7 194 rfl) rfl
theorem q1722 : (Jvm.Cond.codeWith ({ cls := "ParityMaze", name := "take", desc := "(I)I" } : Jvm.MethodName) prog_1_method_21_code (4 : Nat) (Option.some Jvm.ClassFile.FieldType.int) [((19 : Nat), (32 : Nat), (33 : Nat), (47 : Nat))]) ∈ lw_all := lw_g (lw_at lw_m7 195 rfl) rfl
theorem q1723 : (Jvm.Cond.methodLink "ParityMaze" (143 : Nat) ({ cls := "ParityMaze$Maze", name := "takes", desc := "(I)I" } : Jvm.MethodName)) ∈ lw_all := lw_g (lw_at lw_m7 196 rfl) rfl
theorem q1728 : (Jvm.Cond.instanceMethod ({ cls := "ParityMaze", name := "open", desc := "(I)I" } : Jvm.MethodName)) ∈ lw_all := lw_g (lw_at lw_m7 201 rfl) rfl
theorem q1729 : (Jvm.Cond.selects "ParityMaze" ({ cls := "ParityMaze", name := "open", desc := "(I)I" } : Jvm.MethodName) ({ cls := "ParityMaze", name := "open", desc := "(I)I" } : Jvm.MethodName)) ∈ lw_all := lw_g (lw_at lw_m7 202 rfl) rfl
theorem q1730 : (Jvm.Cond.codeWith ({ cls := "ParityMaze", name := "open", desc := "(I)I" } : Jvm.MethodName) prog_1_method_22_code (4 : Nat) (Option.some Jvm.ClassFile.FieldType.int) [((23 : Nat), (36 : Nat), (37 : Nat), (47 : Nat))]) ∈ lw_all := lw_g (lw_at lw_m7 203 rfl) rfl
theorem q1731 : (Jvm.Cond.methodLink "ParityMaze" (146 : Nat) ({ cls := "ParityMaze$Maze", name := "opens", desc := "(I)I" } : Jvm.MethodName)) ∈ lw_all := lw_g (lw_at lw_m7 204 rfl) rfl
theorem q1740 : (Jvm.Cond.instanceMethod ({ cls := "ParityMaze", name := "walker", desc := "(I)I" } : Jvm.MethodName)) ∈ lw_all := lw_g (lw_at lw_m7 213 rfl) rfl
theorem q1741 : (Jvm.Cond.selects "ParityMaze" ({ cls := "ParityMaze", name := "walker", desc := "(I)I" } : Jvm.MethodName) ({ cls := "ParityMaze", name := "walker", desc := "(I)I" } : Jvm.MethodName)) ∈ lw_all := lw_g (lw_at lw_m7 214 rfl) rfl
theorem q1742 : (Jvm.Cond.code ({ cls := "ParityMaze", name := "walker", desc := "(I)I" } : Jvm.MethodName) prog_1_method_23_code (2 : Nat) (Option.some Jvm.ClassFile.FieldType.int)) ∈ lw_all := lw_g (lw_at lw_m7 215 rfl) rfl
theorem q1743 : (Jvm.Cond.methodLink "ParityMaze" (149 : Nat) ({ cls := "ParityMaze$Maze", name := "ofWalker", desc := "(I)I" } : Jvm.MethodName)) ∈ lw_all := lw_g (lw_at lw_m7 216 rfl) rfl
theorem q1756 : (Jvm.Cond.instanceMethod ({ cls := "ParityMaze", name := "way", desc := "(III)I" } : Jvm.MethodName)) ∈ lw_all := lw_g (lw_at lw_m7 229 rfl) rfl
theorem q1757 : (Jvm.Cond.selects "ParityMaze" ({ cls := "ParityMaze", name := "way", desc := "(III)I" } : Jvm.MethodName) ({ cls := "ParityMaze", name := "way", desc := "(III)I" } : Jvm.MethodName)) ∈ lw_all := lw_g (lw_at lw_m7 230 rfl) rfl
theorem q1758 : (Jvm.Cond.code ({ cls := "ParityMaze", name := "way", desc := "(III)I" } : Jvm.MethodName) prog_1_method_25_code (5 : Nat) (Option.some Jvm.ClassFile.FieldType.int)) ∈ lw_all := lw_g (lw_at lw_m7 231 rfl) rfl
theorem q1759 : (Jvm.Cond.methodLink "ParityMaze" (155 : Nat) ({ cls := "ParityMaze", name := "wrong", desc := "(III)I" } : Jvm.MethodName)) ∈ lw_all := lw_g (lw_at lw_m7 232 rfl) rfl
theorem q1760 : (Jvm.Cond.privateMethod ({ cls := "ParityMaze", name := "wrong", desc := "(III)I" } : Jvm.MethodName)) ∈ lw_tbl := lw_at lw_m7 233 rfl
theorem q1761 : (Jvm.Cond.instanceMethod ({ cls := "ParityMaze", name := "wrong", desc := "(III)I" } : Jvm.MethodName)) ∈ lw_all := lw_g (lw_at lw_m7 234 rfl) rfl
theorem q1762 : (Jvm.Cond.code ({ cls := "ParityMaze", name := "wrong", desc := "(III)I" } : Jvm.MethodName) prog_1_method_24_code (4 : Nat) (Option.some Jvm.ClassFile.FieldType.int)) ∈ lw_all := lw_g (lw_at lw_m7 235 rfl) rfl
theorem q1763 : (Jvm.Cond.methodLink "ParityMaze" (152 : Nat) ({ cls := "ParityMaze", name := "isParity", desc := "(I)Z" } : Jvm.MethodName)) ∈ lw_all := lw_g (lw_at lw_m7 236 rfl) rfl
theorem q1764 : (Jvm.Cond.static ({ cls := "ParityMaze", name := "isParity", desc := "(I)Z" } : Jvm.MethodName)) ∈ lw_all := lw_g (lw_at lw_m7 237 rfl) rfl
theorem q1765 : (Jvm.Cond.code ({ cls := "ParityMaze", name := "isParity", desc := "(I)Z" } : Jvm.MethodName) prog_1_method_8_code (1 : Nat) (Option.some Jvm.ClassFile.FieldType.boolean)) ∈ lw_all := lw_g (lw_at lw_m7 238 rfl) rfl
theorem q1766 : (Jvm.Cond.methodLink "ParityMaze" (159 : Nat) ({ cls := "ParityMaze$Maze", name := "way", desc := "(III)I" } : Jvm.MethodName)) ∈ lw_all := lw_g (lw_at lw_m7 239 rfl) rfl
theorem q1768 : (Jvm.Cond.instanceMethod ({ cls := "ParityMaze", name := "wayAgain", desc := "(III)I" } : Jvm.MethodName)) ∈ lw_all := lw_g (lw_at lw_m8 1 rfl) rfl
theorem q1769 : (Jvm.Cond.selects "ParityMaze" ({ cls := "ParityMaze", name := "wayAgain", desc := "(III)I" } : Jvm.MethodName) ({ cls := "ParityMaze", name := "wayAgain", desc := "(III)I" } : Jvm.MethodName)) ∈ lw_all := lw_g (lw_at lw_m8 2 rfl) rfl
theorem q1770 : (Jvm.Cond.code ({ cls := "ParityMaze", name := "wayAgain", desc := "(III)I" } : Jvm.MethodName) prog_1_method_26_code (5 : Nat) (Option.some Jvm.ClassFile.FieldType.int)) ∈ lw_all := lw_g (lw_at lw_m8 3 rfl) rfl
theorem q1771 : (Jvm.Cond.methodLink "ParityMaze" (162 : Nat) ({ cls := "ParityMaze$Maze", name := "wayAgain", desc := "(III)I" } : Jvm.MethodName)) ∈ lw_all := lw_g (lw_at lw_m8 4 rfl) rfl
theorem q1787 : (Jvm.Cond.instanceMethod ({ cls := "ParityMaze", name := "onWay", desc := "(IIII)I" } : Jvm.MethodName)) ∈ lw_all := lw_g (lw_at lw_m8 20 rfl) rfl
theorem q1788 : (Jvm.Cond.selects "ParityMaze" ({ cls := "ParityMaze", name := "onWay", desc := "(IIII)I" } : Jvm.MethodName) ({ cls := "ParityMaze", name := "onWay", desc := "(IIII)I" } : Jvm.MethodName)) ∈ lw_all := lw_g (lw_at lw_m8 21 rfl) rfl
theorem q1789 : (Jvm.Cond.code ({ cls := "ParityMaze", name := "onWay", desc := "(IIII)I" } : Jvm.MethodName) prog_1_method_27_code (7 : Nat) (Option.some Jvm.ClassFile.FieldType.int)) ∈ lw_all := lw_g (lw_at lw_m8 22 rfl) rfl
theorem q1790 : (Jvm.Cond.methodLink "ParityMaze" (165 : Nat) ({ cls := "ParityMaze$Maze", name := "told", desc := "(III)Ljava/util/LinkedList;" } : Jvm.MethodName)) ∈ lw_all := lw_g (lw_at lw_m8 23 rfl) rfl
theorem q1807 : (Jvm.Cond.methodLink "ParityMaze" (169 : Nat) ({ cls := "java/util/LinkedList", name := "size", desc := "()I" } : Jvm.MethodName)) ∈ lw_all := lw_g (lw_at lw_m8 40 rfl) rfl
theorem q1808 : (Jvm.Cond.methodLink "ParityMaze" (172 : Nat) ({ cls := "java/util/LinkedList", name := "get", desc := "(I)Ljava/lang/Object;" } : Jvm.MethodName)) ∈ lw_all := lw_g (lw_at lw_m8 41 rfl) rfl
theorem q1824 : (Jvm.Cond.classLink "ParityMaze" (173 : Nat) "java/lang/Integer") ∈ lw_all := lw_g (lw_at lw_m8 57 rfl) rfl
theorem q1825 : (Jvm.Cond.methodLink "ParityMaze" (175 : Nat) ({ cls := "java/lang/Integer", name := "intValue", desc := "()I" } : Jvm.MethodName)) ∈ lw_all := lw_g (lw_at lw_m8 58 rfl) rfl
theorem q1826 : (Jvm.Cond.methodLink "ParityMaze" (178 : Nat) ({ cls := "java/util/LinkedList", name := "isEmpty", desc := "()Z" } : Jvm.MethodName)) ∈ lw_all := lw_g (lw_at lw_m8 59 rfl) rfl
theorem q1828 : (Jvm.Cond.instanceMethod ({ cls := "ParityMaze", name := "longerBack", desc := "(III)I" } : Jvm.MethodName)) ∈ lw_all := lw_g (lw_at lw_m8 61 rfl) rfl
theorem q1829 : (Jvm.Cond.selects "ParityMaze" ({ cls := "ParityMaze", name := "longerBack", desc := "(III)I" } : Jvm.MethodName) ({ cls := "ParityMaze", name := "longerBack", desc := "(III)I" } : Jvm.MethodName)) ∈ lw_all := lw_g (lw_at lw_m8 62 rfl) rfl
theorem q1830 : (Jvm.Cond.code ({ cls := "ParityMaze", name := "longerBack", desc := "(III)I" } : Jvm.MethodName) prog_1_method_28_code (5 : Nat) (Option.some Jvm.ClassFile.FieldType.int)) ∈ lw_all := lw_g (lw_at lw_m8 63 rfl) rfl
theorem q1831 : (Jvm.Cond.methodLink "ParityMaze" (182 : Nat) ({ cls := "ParityMaze$Maze", name := "longerBack", desc := "(III)I" } : Jvm.MethodName)) ∈ lw_all := lw_g (lw_at lw_m8 64 rfl) rfl
theorem q1836 : (Jvm.Cond.instanceMethod ({ cls := "ParityMaze", name := "reach", desc := "()I" } : Jvm.MethodName)) ∈ lw_all := lw_g (lw_at lw_m8 69 rfl) rfl
theorem q1837 : (Jvm.Cond.selects "ParityMaze" ({ cls := "ParityMaze", name := "reach", desc := "()I" } : Jvm.MethodName) ({ cls := "ParityMaze", name := "reach", desc := "()I" } : Jvm.MethodName)) ∈ lw_all := lw_g (lw_at lw_m8 70 rfl) rfl
theorem q1838 : (Jvm.Cond.code ({ cls := "ParityMaze", name := "reach", desc := "()I" } : Jvm.MethodName) prog_1_method_29_code (1 : Nat) (Option.some Jvm.ClassFile.FieldType.int)) ∈ lw_all := lw_g (lw_at lw_m8 71 rfl) rfl
theorem q1839 : (Jvm.Cond.methodLink "ParityMaze" (185 : Nat) ({ cls := "ParityMaze$Maze", name := "reach", desc := "()I" } : Jvm.MethodName)) ∈ lw_all := lw_g (lw_at lw_m8 72 rfl) rfl
theorem q1949 : (Jvm.Cond.instanceMethod ({ cls := "ParityMaze", name := "nearestKey", desc := "(I)I" } : Jvm.MethodName)) ∈ lw_all := lw_g (lw_at lw_m8 182 rfl) rfl
theorem q1950 : (Jvm.Cond.selects "ParityMaze" ({ cls := "ParityMaze", name := "nearestKey", desc := "(I)I" } : Jvm.MethodName) ({ cls := "ParityMaze", name := "nearestKey", desc := "(I)I" } : Jvm.MethodName)) ∈ lw_all := lw_g (lw_at lw_m8 183 rfl) rfl
theorem q1951 : (Jvm.Cond.code ({ cls := "ParityMaze", name := "nearestKey", desc := "(I)I" } : Jvm.MethodName) prog_1_method_30_code (2 : Nat) (Option.some Jvm.ClassFile.FieldType.int)) ∈ lw_all := lw_g (lw_at lw_m8 184 rfl) rfl
theorem q1952 : (Jvm.Cond.methodLink "ParityMaze" (188 : Nat) ({ cls := "ParityMaze$Maze", name := "nearestKey", desc := "(I)I" } : Jvm.MethodName)) ∈ lw_all := lw_g (lw_at lw_m8 185 rfl) rfl
theorem q1957 : (Jvm.Cond.instanceMethod ({ cls := "ParityMaze", name := "ranked", desc := "(I)I" } : Jvm.MethodName)) ∈ lw_all := lw_g (lw_at lw_m8 190 rfl) rfl
theorem q1958 : (Jvm.Cond.selects "ParityMaze" ({ cls := "ParityMaze", name := "ranked", desc := "(I)I" } : Jvm.MethodName) ({ cls := "ParityMaze", name := "ranked", desc := "(I)I" } : Jvm.MethodName)) ∈ lw_all := lw_g (lw_at lw_m8 191 rfl) rfl
theorem q1959 : (Jvm.Cond.code ({ cls := "ParityMaze", name := "ranked", desc := "(I)I" } : Jvm.MethodName) prog_1_method_31_code (2 : Nat) (Option.some Jvm.ClassFile.FieldType.int)) ∈ lw_all := lw_g (lw_at lw_m8 192 rfl) rfl
theorem q1960 : (Jvm.Cond.methodLink "ParityMaze" (191 : Nat) ({ cls := "ParityMaze$Maze", name := "ranked", desc := "(I)I" } : Jvm.MethodName)) ∈ lw_all := lw_g (lw_at lw_m8 193 rfl) rfl
theorem q1968 : (Jvm.Cond.instanceMethod ({ cls := "ParityMaze", name := "append", desc := "(I)I" } : Jvm.MethodName)) ∈ lw_all := lw_g (lw_at lw_m8 201 rfl) rfl
theorem q1969 : (Jvm.Cond.selects "ParityMaze" ({ cls := "ParityMaze", name := "append", desc := "(I)I" } : Jvm.MethodName) ({ cls := "ParityMaze", name := "append", desc := "(I)I" } : Jvm.MethodName)) ∈ lw_all := lw_g (lw_at lw_m8 202 rfl) rfl
theorem q1970 : (Jvm.Cond.code ({ cls := "ParityMaze", name := "append", desc := "(I)I" } : Jvm.MethodName) prog_1_method_32_code (2 : Nat) (Option.some Jvm.ClassFile.FieldType.int)) ∈ lw_all := lw_g (lw_at lw_m8 203 rfl) rfl
theorem q1971 : (Jvm.Cond.methodLink "ParityMaze" (194 : Nat) ({ cls := "java/lang/StringBuilder", name := "length", desc := "()I" } : Jvm.MethodName)) ∈ lw_all := lw_g (lw_at lw_m8 204 rfl) rfl
theorem q1978 : (Jvm.Cond.methodLink "ParityMaze" (197 : Nat) ({ cls := "java/lang/StringBuilder", name := "append", desc := "(C)Ljava/lang/StringBuilder;" } : Jvm.MethodName)) ∈ lw_all := lw_g (lw_at lw_m8 211 rfl) rfl
theorem q2039 : (Jvm.Cond.instanceMethod ({ cls := "ParityMaze", name := "run", desc := "()I" } : Jvm.MethodName)) ∈ lw_all := lw_g (lw_at lw_m9 32 rfl) rfl
theorem q2040 : (Jvm.Cond.selects "ParityMaze" ({ cls := "ParityMaze", name := "run", desc := "()I" } : Jvm.MethodName) ({ cls := "ParityMaze", name := "run", desc := "()I" } : Jvm.MethodName)) ∈ lw_all := lw_g (lw_at lw_m9 33 rfl) rfl
theorem q2041 : (Jvm.Cond.codeWith ({ cls := "ParityMaze", name := "run", desc := "()I" } : Jvm.MethodName) prog_1_method_33_code (7 : Nat) (Option.some Jvm.ClassFile.FieldType.int) [((0 : Nat), (80 : Nat), (91 : Nat), (225 : Nat)), ((0 : Nat), (80 : Nat), (111 : Nat), (47 : Nat)), ((0 : Nat), (80 : Nat), (128 : Nat), (0 : Nat)), ((91 : Nat), (101 : Nat), (128 : Nat), (0 : Nat)), ((111 : Nat), (118 : Nat), (128 : Nat), (0 : Nat)), ((128 : Nat), (130 : Nat), (128 : Nat), (0 : Nat))]) ∈ lw_all := lw_g (lw_at lw_m9 34 rfl) rfl
theorem q2042 : (Jvm.Cond.classLink "ParityMaze" (225 : Nat) "ParityMaze$Wrong") ∈ lw_all := lw_g (lw_at lw_m9 35 rfl) rfl
theorem q2043 : (Jvm.Cond.classLink "ParityMaze" (201 : Nat) "ParityMaze$Reader") ∈ lw_all := lw_g (lw_at lw_m9 36 rfl) rfl
theorem q2045 : (Jvm.Cond.methodLinkNest "ParityMaze" (203 : Nat) ({ cls := "ParityMaze$Reader", name := "<init>", desc := "(LParityMaze;)V" } : Jvm.MethodName) "ParityMaze") ∈ lw_tbl := lw_at lw_m9 38 rfl
theorem q2056 : (Jvm.Cond.methodLink "ParityMaze" (206 : Nat) ({ cls := "ParityMaze$Reader", name := "commands", desc := "()Ljava/util/LinkedList;" } : Jvm.MethodName)) ∈ lw_all := lw_g (lw_at lw_m9 49 rfl) rfl
theorem q2125 : (Jvm.Cond.fieldLinkNest "ParityMaze" (227 : Nat) "ParityMaze$Wrong" "at" "I" "ParityMaze") ∈ lw_tbl := lw_at lw_m9 118 rfl
theorem q2171 : (Jvm.Cond.methodLink "ParityMaze" (210 : Nat) ({ cls := "java/util/LinkedList", name := "removeFirst", desc := "()Ljava/lang/Object;" } : Jvm.MethodName)) ∈ lw_all := lw_g (lw_at lw_m9 164 rfl) rfl
theorem q2172 : (Jvm.Cond.classLink "ParityMaze" (211 : Nat) "ParityMaze$Command") ∈ lw_all := lw_g (lw_at lw_m9 165 rfl) rfl
theorem q2173 : (Jvm.Cond.methodLink "ParityMaze" (213 : Nat) ({ cls := "ParityMaze$Command", name := "isCarriedOut", desc := "(LParityMaze$Maze;)Z" } : Jvm.MethodName)) ∈ lw_all := lw_g (lw_at lw_m9 166 rfl) rfl
theorem q2211 : (Jvm.Cond.methodLink "ParityMaze" (217 : Nat) ({ cls := "ParityMaze", name := "refuse", desc := "(ZII)V" } : Jvm.MethodName)) ∈ lw_all := lw_g (lw_at lw_m9 204 rfl) rfl
theorem q2212 : (Jvm.Cond.methodLink "ParityMaze" (221 : Nat) ({ cls := "java/lang/StringBuilder", name := "setLength", desc := "(I)V" } : Jvm.MethodName)) ∈ lw_all := lw_g (lw_at lw_m9 205 rfl) rfl
theorem q2233 : (Jvm.Cond.instanceMethod ({ cls := "ParityMaze", name := "tell", desc := "(I)I" } : Jvm.MethodName)) ∈ lw_all := lw_g (lw_at lw_m9 226 rfl) rfl
theorem q2234 : (Jvm.Cond.selects "ParityMaze" ({ cls := "ParityMaze", name := "tell", desc := "(I)I" } : Jvm.MethodName) ({ cls := "ParityMaze", name := "tell", desc := "(I)I" } : Jvm.MethodName)) ∈ lw_all := lw_g (lw_at lw_m9 227 rfl) rfl
theorem q2235 : (Jvm.Cond.code ({ cls := "ParityMaze", name := "tell", desc := "(I)I" } : Jvm.MethodName) prog_1_method_34_code (2 : Nat) (Option.some Jvm.ClassFile.FieldType.int)) ∈ lw_all := lw_g (lw_at lw_m9 228 rfl) rfl
theorem q2236 : (Jvm.Cond.classLink "ParityMaze" (233 : Nat) "ParityMaze$Room") ∈ lw_all := lw_g (lw_at lw_m9 229 rfl) rfl
theorem q2237 : (Jvm.Cond.methodLink "ParityMaze" (236 : Nat) ({ cls := "ParityMaze$Room", name := "text", desc := "(IZ)Ljava/lang/String;" } : Jvm.MethodName)) ∈ lw_all := lw_g (lw_at lw_m9 230 rfl) rfl
theorem q2359 : (Jvm.Cond.methodLink "ParityMaze" (239 : Nat) ({ cls := "java/lang/String", name := "length", desc := "()I" } : Jvm.MethodName)) ∈ lw_all := lw_g (lw_at lw_m10 112 rfl) rfl
theorem q2361 : (Jvm.Cond.instanceMethod ({ cls := "ParityMaze", name := "tellDoor", desc := "(I)I" } : Jvm.MethodName)) ∈ lw_all := lw_g (lw_at lw_m10 114 rfl) rfl
theorem q2362 : (Jvm.Cond.selects "ParityMaze" ({ cls := "ParityMaze", name := "tellDoor", desc := "(I)I" } : Jvm.MethodName) ({ cls := "ParityMaze", name := "tellDoor", desc := "(I)I" } : Jvm.MethodName)) ∈ lw_all := lw_g (lw_at lw_m10 115 rfl) rfl
theorem q2363 : (Jvm.Cond.code ({ cls := "ParityMaze", name := "tellDoor", desc := "(I)I" } : Jvm.MethodName) prog_1_method_35_code (2 : Nat) (Option.some Jvm.ClassFile.FieldType.int)) ∈ lw_all := lw_g (lw_at lw_m10 116 rfl) rfl
theorem q2364 : (Jvm.Cond.methodLink "ParityMaze" (242 : Nat) ({ cls := "ParityMaze$Door", name := "text", desc := "(I)Ljava/lang/String;" } : Jvm.MethodName)) ∈ lw_all := lw_g (lw_at lw_m10 117 rfl) rfl
theorem q2377 : (Jvm.Cond.instanceMethod ({ cls := "ParityMaze", name := "character", desc := "(I)I" } : Jvm.MethodName)) ∈ lw_all := lw_g (lw_at lw_m10 130 rfl) rfl
theorem q2378 : (Jvm.Cond.selects "ParityMaze" ({ cls := "ParityMaze", name := "character", desc := "(I)I" } : Jvm.MethodName) ({ cls := "ParityMaze", name := "character", desc := "(I)I" } : Jvm.MethodName)) ∈ lw_all := lw_g (lw_at lw_m10 131 rfl) rfl
theorem q2379 : (Jvm.Cond.code ({ cls := "ParityMaze", name := "character", desc := "(I)I" } : Jvm.MethodName) prog_1_method_36_code (2 : Nat) (Option.some Jvm.ClassFile.FieldType.int)) ∈ lw_all := lw_g (lw_at lw_m10 132 rfl) rfl
theorem q2380 : (Jvm.Cond.methodLink "ParityMaze" (245 : Nat) ({ cls := "java/lang/String", name := "charAt", desc := "(I)C" } : Jvm.MethodName)) ∈ lw_all := lw_g (lw_at lw_m10 133 rfl) rfl
theorem q2382 : (Jvm.Cond.instanceMethod ({ cls := "ParityMaze", name := "reason", desc := "(Z)I" } : Jvm.MethodName)) ∈ lw_all := lw_g (lw_at lw_m10 135 rfl) rfl
theorem q2383 : (Jvm.Cond.selects "ParityMaze" ({ cls := "ParityMaze", name := "reason", desc := "(Z)I" } : Jvm.MethodName) ({ cls := "ParityMaze", name := "reason", desc := "(Z)I" } : Jvm.MethodName)) ∈ lw_all := lw_g (lw_at lw_m10 136 rfl) rfl
theorem q2384 : (Jvm.Cond.code ({ cls := "ParityMaze", name := "reason", desc := "(Z)I" } : Jvm.MethodName) prog_1_method_37_code (2 : Nat) (Option.some Jvm.ClassFile.FieldType.int)) ∈ lw_all := lw_g (lw_at lw_m10 137 rfl) rfl
theorem q2386 : (Jvm.Cond.instanceMethod ({ cls := "ParityMaze", name := "account", desc := "(I)I" } : Jvm.MethodName)) ∈ lw_all := lw_g (lw_at lw_m10 139 rfl) rfl
theorem q2387 : (Jvm.Cond.selects "ParityMaze" ({ cls := "ParityMaze", name := "account", desc := "(I)I" } : Jvm.MethodName) ({ cls := "ParityMaze", name := "account", desc := "(I)I" } : Jvm.MethodName)) ∈ lw_all := lw_g (lw_at lw_m10 140 rfl) rfl
theorem q2388 : (Jvm.Cond.code ({ cls := "ParityMaze", name := "account", desc := "(I)I" } : Jvm.MethodName) prog_1_method_38_code (2 : Nat) (Option.some Jvm.ClassFile.FieldType.int)) ∈ lw_all := lw_g (lw_at lw_m10 141 rfl) rfl
theorem q2389 : (Jvm.Cond.methodLink "ParityMaze" (249 : Nat) ({ cls := "ParityMaze$Maze", name := "many", desc := "()I" } : Jvm.MethodName)) ∈ lw_all := lw_g (lw_at lw_m10 142 rfl) rfl
theorem q2390 : (Jvm.Cond.methodLink "ParityMaze" (252 : Nat) ({ cls := "java/util/ArrayList", name := "size", desc := "()I" } : Jvm.MethodName)) ∈ lw_all := lw_g (lw_at lw_m10 143 rfl) rfl
theorem q2391 : (Jvm.Cond.methodLink "ParityMaze" (253 : Nat) ({ cls := "ParityMaze$Maze", name := "lit", desc := "()I" } : Jvm.MethodName)) ∈ lw_all := lw_g (lw_at lw_m10 144 rfl) rfl
theorem q2395 : (Jvm.Cond.methodLink "ParityMaze" (256 : Nat) ({ cls := "ParityMaze$Maze", name := "shut", desc := "()I" } : Jvm.MethodName)) ∈ lw_all := lw_g (lw_at lw_m10 148 rfl) rfl
theorem q2399 : (Jvm.Cond.methodLink "ParityMaze" (262 : Nat) ({ cls := "ParityMaze$Maze", name := "lying", desc := "()I" } : Jvm.MethodName)) ∈ lw_all := lw_g (lw_at lw_m10 152 rfl) rfl
theorem q2404 : (Jvm.Cond.static ({ cls := "ParityMaze", name := "sum", desc := "([I)I" } : Jvm.MethodName)) ∈ lw_all := lw_g (lw_at lw_m10 157 rfl) rfl
theorem q2405 : (Jvm.Cond.code ({ cls := "ParityMaze", name := "sum", desc := "([I)I" } : Jvm.MethodName) prog_1_method_9_code (6 : Nat) (Option.some Jvm.ClassFile.FieldType.int)) ∈ lw_all := lw_g (lw_at lw_m10 158 rfl) rfl
theorem q2406 : (Jvm.Cond.methodLink "ParityMaze" (265 : Nat) ({ cls := "ParityMaze$Maze", name := "inHand", desc := "()I" } : Jvm.MethodName)) ∈ lw_all := lw_g (lw_at lw_m10 159 rfl) rfl
theorem q2410 : (Jvm.Cond.methodLink "ParityMaze" (271 : Nat) ({ cls := "ParityMaze$Maze", name := "allOil", desc := "()I" } : Jvm.MethodName)) ∈ lw_all := lw_g (lw_at lw_m10 163 rfl) rfl
theorem q2415 : (Jvm.Cond.instanceMethod ({ cls := "ParityMaze", name := "isBalanced", desc := "()I" } : Jvm.MethodName)) ∈ lw_all := lw_g (lw_at lw_m10 168 rfl) rfl
theorem q2416 : (Jvm.Cond.selects "ParityMaze" ({ cls := "ParityMaze", name := "isBalanced", desc := "()I" } : Jvm.MethodName) ({ cls := "ParityMaze", name := "isBalanced", desc := "()I" } : Jvm.MethodName)) ∈ lw_all := lw_g (lw_at lw_m10 169 rfl) rfl
theorem q2417 : (Jvm.Cond.code ({ cls := "ParityMaze", name := "isBalanced", desc := "()I" } : Jvm.MethodName) prog_1_method_39_code (1 : Nat) (Option.some Jvm.ClassFile.FieldType.int)) ∈ lw_all := lw_g (lw_at lw_m10 170 rfl) rfl
theorem q2418 : (Jvm.Cond.methodLink "ParityMaze" (277 : Nat) ({ cls := "ParityMaze$Maze", name := "isBalanced", desc := "()Z" } : Jvm.MethodName)) ∈ lw_all := lw_g (lw_at lw_m10 171 rfl) rfl
theorem q2430 : (Jvm.Cond.instanceMethod ({ cls := "ParityMaze", name := "meanOil", desc := "()D" } : Jvm.MethodName)) ∈ lw_all := lw_g (lw_at lw_m10 183 rfl) rfl
theorem q2431 : (Jvm.Cond.selects "ParityMaze" ({ cls := "ParityMaze", name := "meanOil", desc := "()D" } : Jvm.MethodName) ({ cls := "ParityMaze", name := "meanOil", desc := "()D" } : Jvm.MethodName)) ∈ lw_all := lw_g (lw_at lw_m10 184 rfl) rfl
theorem q2432 : (Jvm.Cond.code ({ cls := "ParityMaze", name := "meanOil", desc := "()D" } : Jvm.MethodName) prog_1_method_40_code (2 : Nat) (Option.some Jvm.ClassFile.FieldType.double)) ∈ lw_all := lw_g (lw_at lw_m10 185 rfl) rfl
theorem q2434 : (Jvm.Cond.instanceMethod ({ cls := "ParityMaze", name := "doubledShare", desc := "()F" } : Jvm.MethodName)) ∈ lw_all := lw_g (lw_at lw_m10 187 rfl) rfl
theorem q2435 : (Jvm.Cond.selects "ParityMaze" ({ cls := "ParityMaze", name := "doubledShare", desc := "()F" } : Jvm.MethodName) ({ cls := "ParityMaze", name := "doubledShare", desc := "()F" } : Jvm.MethodName)) ∈ lw_all := lw_g (lw_at lw_m10 188 rfl) rfl
theorem q2436 : (Jvm.Cond.code ({ cls := "ParityMaze", name := "doubledShare", desc := "()F" } : Jvm.MethodName) prog_1_method_41_code (2 : Nat) (Option.some Jvm.ClassFile.FieldType.float)) ∈ lw_all := lw_g (lw_at lw_m10 189 rfl) rfl
theorem q2437 : (Jvm.Cond.methodLink "ParityMaze" (280 : Nat) ({ cls := "ParityMaze$Maze", name := "doubled", desc := "()Ljava/util/BitSet;" } : Jvm.MethodName)) ∈ lw_all := lw_g (lw_at lw_m10 190 rfl) rfl
theorem q2438 : (Jvm.Cond.methodLink "ParityMaze" (284 : Nat) ({ cls := "java/util/BitSet", name := "cardinality", desc := "()I" } : Jvm.MethodName)) ∈ lw_all := lw_g (lw_at lw_m10 191 rfl) rfl
theorem q2449 : (Jvm.Cond.instanceMethod ({ cls := "ParityMaze", name := "undo", desc := "()I" } : Jvm.MethodName)) ∈ lw_all := lw_g (lw_at lw_m10 202 rfl) rfl
theorem q2450 : (Jvm.Cond.selects "ParityMaze" ({ cls := "ParityMaze", name := "undo", desc := "()I" } : Jvm.MethodName) ({ cls := "ParityMaze", name := "undo", desc := "()I" } : Jvm.MethodName)) ∈ lw_all := lw_g (lw_at lw_m10 203 rfl) rfl
theorem q2451 : (Jvm.Cond.code ({ cls := "ParityMaze", name := "undo", desc := "()I" } : Jvm.MethodName) prog_1_method_42_code (1 : Nat) (Option.some Jvm.ClassFile.FieldType.int)) ∈ lw_all := lw_g (lw_at lw_m10 204 rfl) rfl
theorem q2452 : (Jvm.Cond.methodLink "ParityMaze" (289 : Nat) ({ cls := "java/util/ArrayDeque", name := "isEmpty", desc := "()Z" } : Jvm.MethodName)) ∈ lw_all := lw_g (lw_at lw_m10 205 rfl) rfl
theorem q2456 : (Jvm.Cond.methodLink "ParityMaze" (290 : Nat) ({ cls := "java/util/ArrayDeque", name := "removeLast", desc := "()Ljava/lang/Object;" } : Jvm.MethodName)) ∈ lw_all := lw_g (lw_at lw_m10 209 rfl) rfl
theorem q2468 : (Jvm.Cond.instanceMethod ({ cls := "ParityMaze", name := "save", desc := "()I" } : Jvm.MethodName)) ∈ lw_all := lw_g (lw_at lw_m10 221 rfl) rfl
theorem q2469 : (Jvm.Cond.selects "ParityMaze" ({ cls := "ParityMaze", name := "save", desc := "()I" } : Jvm.MethodName) ({ cls := "ParityMaze", name := "save", desc := "()I" } : Jvm.MethodName)) ∈ lw_all := lw_g (lw_at lw_m10 222 rfl) rfl
theorem q2470 : (Jvm.Cond.code ({ cls := "ParityMaze", name := "save", desc := "()I" } : Jvm.MethodName) prog_1_method_43_code (1 : Nat) (Option.some Jvm.ClassFile.FieldType.int)) ∈ lw_all := lw_g (lw_at lw_m10 223 rfl) rfl
theorem q2472 : (Jvm.Cond.instanceMethod ({ cls := "ParityMaze", name := "restore", desc := "()I" } : Jvm.MethodName)) ∈ lw_all := lw_g (lw_at lw_m10 225 rfl) rfl
theorem q2473 : (Jvm.Cond.selects "ParityMaze" ({ cls := "ParityMaze", name := "restore", desc := "()I" } : Jvm.MethodName) ({ cls := "ParityMaze", name := "restore", desc := "()I" } : Jvm.MethodName)) ∈ lw_all := lw_g (lw_at lw_m10 226 rfl) rfl
theorem q2474 : (Jvm.Cond.code ({ cls := "ParityMaze", name := "restore", desc := "()I" } : Jvm.MethodName) prog_1_method_44_code (1 : Nat) (Option.some Jvm.ClassFile.FieldType.int)) ∈ lw_all := lw_g (lw_at lw_m10 227 rfl) rfl
theorem q2475 : (Jvm.Cond.methodLink "ParityMaze" (296 : Nat) ({ cls := "java/util/ArrayDeque", name := "clear", desc := "()V" } : Jvm.MethodName)) ∈ lw_all := lw_g (lw_at lw_m10 228 rfl) rfl
theorem q2887 : (Jvm.Cond.castable "ParityMaze" "java/lang/Object") ∈ lw_tbl := lw_at lw_m12 160 rfl
theorem in_X0 : ∀ w ∈ wsX00, w ∈ lw_all := lw_in wsX00 [283, 285, 287, 289, 291, 293, 295] (by decide +kernel) (by decide +kernel)
/-! ParityMaze$Maze -/
set_option maxRecDepth 100000
def RX1 : String := "ParityMaze$Maze"
def TX1 : u_T := fun k => match k with
  | 0 => ("ParityMaze$Maze", "rooms", "Ljava/util/ArrayList;", true)
  | 1 => ("ParityMaze$Maze", "doors", "Ljava/util/ArrayList;", true)
  | 2 => ("ParityMaze$Maze", "hand", "[I", true)
  | 3 => ("ParityMaze$Maze", "at", "I", false)
  | 4 => ("ParityMaze$Maze", "steps", "I", false)
  | 5 => ("ParityMaze$Maze", "laid", "I", false)
  | 6 => ("ParityMaze$Maze", "used", "I", false)
  | _ => ("ParityMaze$Maze", "gone", "I", false)
def tyX1 : Nat → FieldType := fun k => match k with
  | 0 => .object "java/util/ArrayList"
  | 1 => .object "java/util/ArrayList"
  | 2 => .array .int
  | 3 => .int
  | 4 => .int
  | 5 => .int
  | 6 => .int
  | _ => .int
abbrev wsX10 : List Cond := u_ws RX1 TX1 8
theorem nmX1 : ∀ a, a < 8 → ∀ b, b < 8 → a ≠ b → (TX1 a).2.1 ≠ (TX1 b).2.1 := by decide +kernel
theorem tyX1_ok : ∀ k, k < 8 → parseFieldDescriptor (TX1 k).2.2.1 = some (tyX1 k) := by decide +kernel
abbrev cX1_init : ByteArray := prog_4_method_1_code
def yX1_init : MethodName := ⟨RX1, "<init>", "()V"⟩
def dkwX1_init_1 : List UInt8 := [183, 0, 11, 181, 0, 20, 42, 6, 188, 10, 181, 0, 23, 177]
abbrev dktX1_init_1 : List UInt8 := dkwX1_init_1 ++ []
def dkwX1_init_0 : List UInt8 := [42, 183, 0, 3, 42, 187, 0, 9, 89, 16, 10, 183, 0, 11, 181, 0, 14, 42, 187, 0, 9, 89, 16, 16]
abbrev dktX1_init_0 : List UInt8 := dkwX1_init_0 ++ dktX1_init_1
theorem dksX1_init_0 : cX1_init.data.toList.drop 0 = dktX1_init_0 := by decide +kernel
theorem dksX1_init_1 : cX1_init.data.toList.drop 24 = dktX1_init_1 := dk_seg dksX1_init_0 24 rfl rfl
theorem dX1_init_0 : decode cX1_init 0 = .ok (.aload_n 0, 1) := dk_42 (dk_at dksX1_init_0 0 rfl rfl)
theorem dX1_init_1 : decode cX1_init 1 = .ok (.invokespecial 3, 3) := dk_183 0 3 (dk_at dksX1_init_0 1 rfl rfl)
theorem dX1_init_4 : decode cX1_init 4 = .ok (.aload_n 0, 1) := dk_42 (dk_at dksX1_init_0 4 rfl rfl)
theorem dX1_init_5 : decode cX1_init 5 = .ok (.new 9, 3) := dk_187 0 9 (dk_at dksX1_init_0 5 rfl rfl)
theorem dX1_init_8 : decode cX1_init 8 = .ok (.dup, 1) := dk_89 (dk_at dksX1_init_0 8 rfl rfl)
theorem dX1_init_9 : decode cX1_init 9 = .ok (.bipush 10, 2) := dk_16 10 (dk_at dksX1_init_0 9 rfl rfl)
theorem dX1_init_11 : decode cX1_init 11 = .ok (.invokespecial 11, 3) := dk_183 0 11 (dk_at dksX1_init_0 11 rfl rfl)
theorem dX1_init_14 : decode cX1_init 14 = .ok (.putfield 14, 3) := dk_181 0 14 (dk_at dksX1_init_0 14 rfl rfl)
theorem dX1_init_17 : decode cX1_init 17 = .ok (.aload_n 0, 1) := dk_42 (dk_at dksX1_init_0 17 rfl rfl)
theorem dX1_init_18 : decode cX1_init 18 = .ok (.new 9, 3) := dk_187 0 9 (dk_at dksX1_init_0 18 rfl rfl)
theorem dX1_init_21 : decode cX1_init 21 = .ok (.dup, 1) := dk_89 (dk_at dksX1_init_0 21 rfl rfl)
theorem dX1_init_22 : decode cX1_init 22 = .ok (.bipush 16, 2) := dk_16 16 (dk_at dksX1_init_0 22 rfl rfl)
theorem dX1_init_24 : decode cX1_init 24 = .ok (.invokespecial 11, 3) := dk_183 0 11 (dk_at dksX1_init_1 0 rfl rfl)
theorem dX1_init_27 : decode cX1_init 27 = .ok (.putfield 20, 3) := dk_181 0 20 (dk_at dksX1_init_1 3 rfl rfl)
theorem dX1_init_30 : decode cX1_init 30 = .ok (.aload_n 0, 1) := dk_42 (dk_at dksX1_init_1 6 rfl rfl)
theorem dX1_init_31 : decode cX1_init 31 = .ok (.iconst 3, 1) := dk_6 (dk_at dksX1_init_1 7 rfl rfl)
theorem dX1_init_32 : decode cX1_init 32 = .ok (.newarray .int, 2) := dk_188_10 (dk_at dksX1_init_1 8 rfl rfl)
theorem dX1_init_34 : decode cX1_init 34 = .ok (.putfield 23, 3) := dk_181 0 23 (dk_at dksX1_init_1 10 rfl rfl)
theorem dX1_init_37 : decode cX1_init 37 = .ok (.return_, 1) := dk_177 (dk_at dksX1_init_1 13 rfl rfl)
abbrev cX1_copy : ByteArray := prog_4_method_2_code
def yX1_copy : MethodName := ⟨RX1, "copy", "()LParityMaze$Maze;"⟩
def dkwX1_copy_6 : List UInt8 := [180, 0, 64, 181, 0, 64, 43, 42, 180, 0, 67, 181, 0, 67, 43, 176]
abbrev dktX1_copy_6 : List UInt8 := dkwX1_copy_6 ++ []
def dkwX1_copy_5 : List UInt8 := [180, 0, 54, 181, 0, 54, 43, 42, 180, 0, 58, 181, 0, 58, 43, 42, 180, 0, 61, 181, 0, 61, 43, 42]
abbrev dktX1_copy_5 : List UInt8 := dkwX1_copy_5 ++ dktX1_copy_6
def dkwX1_copy_4 : List UInt8 := [6, 162, 0, 21, 43, 180, 0, 23, 28, 42, 180, 0, 23, 28, 46, 79, 132, 2, 1, 167, 255, 236, 43, 42]
abbrev dktX1_copy_4 : List UInt8 := dkwX1_copy_4 ++ dktX1_copy_5
def dkwX1_copy_3 : List UInt8 := [185, 0, 38, 1, 0, 192, 0, 52, 78, 43, 180, 0, 20, 45, 182, 0, 48, 87, 167, 255, 228, 3, 61, 28]
abbrev dktX1_copy_3 : List UInt8 := dkwX1_copy_3 ++ dktX1_copy_4
def dkwX1_copy_2 : List UInt8 := [87, 167, 255, 225, 42, 180, 0, 20, 182, 0, 28, 77, 44, 185, 0, 32, 1, 0, 153, 0, 25, 44]
abbrev dktX1_copy_2 : List UInt8 := dkwX1_copy_2 ++ dktX1_copy_3
def dkwX1_copy_1 : List UInt8 := [153, 0, 28, 44, 185, 0, 38, 1, 0, 192, 0, 42, 78, 43, 180, 0, 14, 45, 182, 0, 44, 182, 0, 48]
abbrev dktX1_copy_1 : List UInt8 := dkwX1_copy_1 ++ dktX1_copy_2
def dkwX1_copy_0 : List UInt8 := [187, 0, 15, 89, 183, 0, 27, 76, 42, 180, 0, 14, 182, 0, 28, 77, 44, 185, 0, 32, 1, 0]
abbrev dktX1_copy_0 : List UInt8 := dkwX1_copy_0 ++ dktX1_copy_1
theorem dksX1_copy_0 : cX1_copy.data.toList.drop 0 = dktX1_copy_0 := by decide +kernel
theorem dksX1_copy_1 : cX1_copy.data.toList.drop 22 = dktX1_copy_1 := dk_seg dksX1_copy_0 22 rfl rfl
theorem dksX1_copy_2 : cX1_copy.data.toList.drop 46 = dktX1_copy_2 := dk_seg dksX1_copy_1 24 rfl rfl
theorem dksX1_copy_3 : cX1_copy.data.toList.drop 68 = dktX1_copy_3 := dk_seg dksX1_copy_2 22 rfl rfl
theorem dksX1_copy_4 : cX1_copy.data.toList.drop 92 = dktX1_copy_4 := dk_seg dksX1_copy_3 24 rfl rfl
theorem dksX1_copy_5 : cX1_copy.data.toList.drop 116 = dktX1_copy_5 := dk_seg dksX1_copy_4 24 rfl rfl
theorem dksX1_copy_6 : cX1_copy.data.toList.drop 140 = dktX1_copy_6 := dk_seg dksX1_copy_5 24 rfl rfl
theorem dX1_copy_0 : decode cX1_copy 0 = .ok (.new 15, 3) := dk_187 0 15 (dk_at dksX1_copy_0 0 rfl rfl)
theorem dX1_copy_3 : decode cX1_copy 3 = .ok (.dup, 1) := dk_89 (dk_at dksX1_copy_0 3 rfl rfl)
theorem dX1_copy_4 : decode cX1_copy 4 = .ok (.invokespecial 27, 3) := dk_183 0 27 (dk_at dksX1_copy_0 4 rfl rfl)
theorem dX1_copy_7 : decode cX1_copy 7 = .ok (.astore_n 1, 1) := dk_76 (dk_at dksX1_copy_0 7 rfl rfl)
theorem dX1_copy_8 : decode cX1_copy 8 = .ok (.aload_n 0, 1) := dk_42 (dk_at dksX1_copy_0 8 rfl rfl)
theorem dX1_copy_9 : decode cX1_copy 9 = .ok (.getfield 14, 3) := dk_180 0 14 (dk_at dksX1_copy_0 9 rfl rfl)
theorem dX1_copy_12 : decode cX1_copy 12 = .ok (.invokevirtual 28, 3) := dk_182 0 28 (dk_at dksX1_copy_0 12 rfl rfl)
theorem dX1_copy_15 : decode cX1_copy 15 = .ok (.astore_n 2, 1) := dk_77 (dk_at dksX1_copy_0 15 rfl rfl)
theorem dX1_copy_16 : decode cX1_copy 16 = .ok (.aload_n 2, 1) := dk_44 (dk_at dksX1_copy_0 16 rfl rfl)
theorem dX1_copy_17 : decode cX1_copy 17 = .ok (.invokeinterface 32 1, 5) := by decide +kernel
theorem dX1_copy_22 : decode cX1_copy 22 = .ok (.ifCond .eq 28, 3) := dk_153 0 28 (dk_at dksX1_copy_1 0 rfl rfl)
theorem dX1_copy_25 : decode cX1_copy 25 = .ok (.aload_n 2, 1) := dk_44 (dk_at dksX1_copy_1 3 rfl rfl)
theorem dX1_copy_26 : decode cX1_copy 26 = .ok (.invokeinterface 38 1, 5) := by decide +kernel
theorem dX1_copy_31 : decode cX1_copy 31 = .ok (.checkcast 42, 3) := dk_192 0 42 (dk_at dksX1_copy_1 9 rfl rfl)
theorem dX1_copy_34 : decode cX1_copy 34 = .ok (.astore_n 3, 1) := dk_78 (dk_at dksX1_copy_1 12 rfl rfl)
theorem dX1_copy_35 : decode cX1_copy 35 = .ok (.aload_n 1, 1) := dk_43 (dk_at dksX1_copy_1 13 rfl rfl)
theorem dX1_copy_36 : decode cX1_copy 36 = .ok (.getfield 14, 3) := dk_180 0 14 (dk_at dksX1_copy_1 14 rfl rfl)
theorem dX1_copy_39 : decode cX1_copy 39 = .ok (.aload_n 3, 1) := dk_45 (dk_at dksX1_copy_1 17 rfl rfl)
theorem dX1_copy_40 : decode cX1_copy 40 = .ok (.invokevirtual 44, 3) := dk_182 0 44 (dk_at dksX1_copy_1 18 rfl rfl)
theorem dX1_copy_43 : decode cX1_copy 43 = .ok (.invokevirtual 48, 3) := dk_182 0 48 (dk_at dksX1_copy_1 21 rfl rfl)
theorem dX1_copy_46 : decode cX1_copy 46 = .ok (.pop, 1) := dk_87 (dk_at dksX1_copy_2 0 rfl rfl)
theorem dX1_copy_47 : decode cX1_copy 47 = .ok (.goto (-31), 3) := dk_167 255 225 (dk_at dksX1_copy_2 1 rfl rfl)
theorem dX1_copy_50 : decode cX1_copy 50 = .ok (.aload_n 0, 1) := dk_42 (dk_at dksX1_copy_2 4 rfl rfl)
theorem dX1_copy_51 : decode cX1_copy 51 = .ok (.getfield 20, 3) := dk_180 0 20 (dk_at dksX1_copy_2 5 rfl rfl)
theorem dX1_copy_54 : decode cX1_copy 54 = .ok (.invokevirtual 28, 3) := dk_182 0 28 (dk_at dksX1_copy_2 8 rfl rfl)
theorem dX1_copy_57 : decode cX1_copy 57 = .ok (.astore_n 2, 1) := dk_77 (dk_at dksX1_copy_2 11 rfl rfl)
theorem dX1_copy_58 : decode cX1_copy 58 = .ok (.aload_n 2, 1) := dk_44 (dk_at dksX1_copy_2 12 rfl rfl)
theorem dX1_copy_59 : decode cX1_copy 59 = .ok (.invokeinterface 32 1, 5) := by decide +kernel
theorem dX1_copy_64 : decode cX1_copy 64 = .ok (.ifCond .eq 25, 3) := dk_153 0 25 (dk_at dksX1_copy_2 18 rfl rfl)
theorem dX1_copy_67 : decode cX1_copy 67 = .ok (.aload_n 2, 1) := dk_44 (dk_at dksX1_copy_2 21 rfl rfl)
theorem dX1_copy_68 : decode cX1_copy 68 = .ok (.invokeinterface 38 1, 5) := by decide +kernel
theorem dX1_copy_73 : decode cX1_copy 73 = .ok (.checkcast 52, 3) := dk_192 0 52 (dk_at dksX1_copy_3 5 rfl rfl)
theorem dX1_copy_76 : decode cX1_copy 76 = .ok (.astore_n 3, 1) := dk_78 (dk_at dksX1_copy_3 8 rfl rfl)
theorem dX1_copy_77 : decode cX1_copy 77 = .ok (.aload_n 1, 1) := dk_43 (dk_at dksX1_copy_3 9 rfl rfl)
theorem dX1_copy_78 : decode cX1_copy 78 = .ok (.getfield 20, 3) := dk_180 0 20 (dk_at dksX1_copy_3 10 rfl rfl)
theorem dX1_copy_81 : decode cX1_copy 81 = .ok (.aload_n 3, 1) := dk_45 (dk_at dksX1_copy_3 13 rfl rfl)
theorem dX1_copy_82 : decode cX1_copy 82 = .ok (.invokevirtual 48, 3) := dk_182 0 48 (dk_at dksX1_copy_3 14 rfl rfl)
theorem dX1_copy_85 : decode cX1_copy 85 = .ok (.pop, 1) := dk_87 (dk_at dksX1_copy_3 17 rfl rfl)
theorem dX1_copy_86 : decode cX1_copy 86 = .ok (.goto (-28), 3) := dk_167 255 228 (dk_at dksX1_copy_3 18 rfl rfl)
theorem dX1_copy_89 : decode cX1_copy 89 = .ok (.iconst 0, 1) := dk_3 (dk_at dksX1_copy_3 21 rfl rfl)
theorem dX1_copy_90 : decode cX1_copy 90 = .ok (.istore_n 2, 1) := dk_61 (dk_at dksX1_copy_3 22 rfl rfl)
theorem dX1_copy_91 : decode cX1_copy 91 = .ok (.iload_n 2, 1) := dk_28 (dk_at dksX1_copy_3 23 rfl rfl)
theorem dX1_copy_92 : decode cX1_copy 92 = .ok (.iconst 3, 1) := dk_6 (dk_at dksX1_copy_4 0 rfl rfl)
theorem dX1_copy_93 : decode cX1_copy 93 = .ok (.if_icmp .ge 21, 3) := dk_162 0 21 (dk_at dksX1_copy_4 1 rfl rfl)
theorem dX1_copy_96 : decode cX1_copy 96 = .ok (.aload_n 1, 1) := dk_43 (dk_at dksX1_copy_4 4 rfl rfl)
theorem dX1_copy_97 : decode cX1_copy 97 = .ok (.getfield 23, 3) := dk_180 0 23 (dk_at dksX1_copy_4 5 rfl rfl)
theorem dX1_copy_100 : decode cX1_copy 100 = .ok (.iload_n 2, 1) := dk_28 (dk_at dksX1_copy_4 8 rfl rfl)
theorem dX1_copy_101 : decode cX1_copy 101 = .ok (.aload_n 0, 1) := dk_42 (dk_at dksX1_copy_4 9 rfl rfl)
theorem dX1_copy_102 : decode cX1_copy 102 = .ok (.getfield 23, 3) := dk_180 0 23 (dk_at dksX1_copy_4 10 rfl rfl)
theorem dX1_copy_105 : decode cX1_copy 105 = .ok (.iload_n 2, 1) := dk_28 (dk_at dksX1_copy_4 13 rfl rfl)
theorem dX1_copy_106 : decode cX1_copy 106 = .ok (.iaload, 1) := dk_46 (dk_at dksX1_copy_4 14 rfl rfl)
theorem dX1_copy_107 : decode cX1_copy 107 = .ok (.iastore, 1) := dk_79 (dk_at dksX1_copy_4 15 rfl rfl)
theorem dX1_copy_108 : decode cX1_copy 108 = .ok (.iinc 2 1, 3) := dk_132 2 1 (dk_at dksX1_copy_4 16 rfl rfl)
theorem dX1_copy_111 : decode cX1_copy 111 = .ok (.goto (-20), 3) := dk_167 255 236 (dk_at dksX1_copy_4 19 rfl rfl)
theorem dX1_copy_114 : decode cX1_copy 114 = .ok (.aload_n 1, 1) := dk_43 (dk_at dksX1_copy_4 22 rfl rfl)
theorem dX1_copy_115 : decode cX1_copy 115 = .ok (.aload_n 0, 1) := dk_42 (dk_at dksX1_copy_4 23 rfl rfl)
theorem dX1_copy_116 : decode cX1_copy 116 = .ok (.getfield 54, 3) := dk_180 0 54 (dk_at dksX1_copy_5 0 rfl rfl)
theorem dX1_copy_119 : decode cX1_copy 119 = .ok (.putfield 54, 3) := dk_181 0 54 (dk_at dksX1_copy_5 3 rfl rfl)
theorem dX1_copy_122 : decode cX1_copy 122 = .ok (.aload_n 1, 1) := dk_43 (dk_at dksX1_copy_5 6 rfl rfl)
theorem dX1_copy_123 : decode cX1_copy 123 = .ok (.aload_n 0, 1) := dk_42 (dk_at dksX1_copy_5 7 rfl rfl)
theorem dX1_copy_124 : decode cX1_copy 124 = .ok (.getfield 58, 3) := dk_180 0 58 (dk_at dksX1_copy_5 8 rfl rfl)
theorem dX1_copy_127 : decode cX1_copy 127 = .ok (.putfield 58, 3) := dk_181 0 58 (dk_at dksX1_copy_5 11 rfl rfl)
theorem dX1_copy_130 : decode cX1_copy 130 = .ok (.aload_n 1, 1) := dk_43 (dk_at dksX1_copy_5 14 rfl rfl)
theorem dX1_copy_131 : decode cX1_copy 131 = .ok (.aload_n 0, 1) := dk_42 (dk_at dksX1_copy_5 15 rfl rfl)
theorem dX1_copy_132 : decode cX1_copy 132 = .ok (.getfield 61, 3) := dk_180 0 61 (dk_at dksX1_copy_5 16 rfl rfl)
theorem dX1_copy_135 : decode cX1_copy 135 = .ok (.putfield 61, 3) := dk_181 0 61 (dk_at dksX1_copy_5 19 rfl rfl)
theorem dX1_copy_138 : decode cX1_copy 138 = .ok (.aload_n 1, 1) := dk_43 (dk_at dksX1_copy_5 22 rfl rfl)
theorem dX1_copy_139 : decode cX1_copy 139 = .ok (.aload_n 0, 1) := dk_42 (dk_at dksX1_copy_5 23 rfl rfl)
theorem dX1_copy_140 : decode cX1_copy 140 = .ok (.getfield 64, 3) := dk_180 0 64 (dk_at dksX1_copy_6 0 rfl rfl)
theorem dX1_copy_143 : decode cX1_copy 143 = .ok (.putfield 64, 3) := dk_181 0 64 (dk_at dksX1_copy_6 3 rfl rfl)
theorem dX1_copy_146 : decode cX1_copy 146 = .ok (.aload_n 1, 1) := dk_43 (dk_at dksX1_copy_6 6 rfl rfl)
theorem dX1_copy_147 : decode cX1_copy 147 = .ok (.aload_n 0, 1) := dk_42 (dk_at dksX1_copy_6 7 rfl rfl)
theorem dX1_copy_148 : decode cX1_copy 148 = .ok (.getfield 67, 3) := dk_180 0 67 (dk_at dksX1_copy_6 8 rfl rfl)
theorem dX1_copy_151 : decode cX1_copy 151 = .ok (.putfield 67, 3) := dk_181 0 67 (dk_at dksX1_copy_6 11 rfl rfl)
theorem dX1_copy_154 : decode cX1_copy 154 = .ok (.aload_n 1, 1) := dk_43 (dk_at dksX1_copy_6 14 rfl rfl)
theorem dX1_copy_155 : decode cX1_copy 155 = .ok (.areturn, 1) := dk_176 (dk_at dksX1_copy_6 15 rfl rfl)
abbrev cX1_adds : ByteArray := prog_4_method_7_code
def yX1_adds : MethodName := ⟨RX1, "adds", "(I)I"⟩
def dkwX1_adds_1 : List UInt8 := [187, 0, 42, 89, 27, 183, 0, 89, 182, 0, 48, 87, 42, 182, 0, 74, 4, 100, 172]
abbrev dktX1_adds_1 : List UInt8 := dkwX1_adds_1 ++ []
def dkwX1_adds_0 : List UInt8 := [42, 182, 0, 74, 16, 10, 160, 0, 7, 4, 167, 0, 4, 3, 4, 16, 10, 184, 0, 85, 42, 180, 0, 14]
abbrev dktX1_adds_0 : List UInt8 := dkwX1_adds_0 ++ dktX1_adds_1
theorem dksX1_adds_0 : cX1_adds.data.toList.drop 0 = dktX1_adds_0 := by decide +kernel
theorem dksX1_adds_1 : cX1_adds.data.toList.drop 24 = dktX1_adds_1 := dk_seg dksX1_adds_0 24 rfl rfl
theorem dX1_adds_0 : decode cX1_adds 0 = .ok (.aload_n 0, 1) := dk_42 (dk_at dksX1_adds_0 0 rfl rfl)
theorem dX1_adds_1 : decode cX1_adds 1 = .ok (.invokevirtual 74, 3) := dk_182 0 74 (dk_at dksX1_adds_0 1 rfl rfl)
theorem dX1_adds_4 : decode cX1_adds 4 = .ok (.bipush 10, 2) := dk_16 10 (dk_at dksX1_adds_0 4 rfl rfl)
theorem dX1_adds_6 : decode cX1_adds 6 = .ok (.if_icmp .ne 7, 3) := dk_160 0 7 (dk_at dksX1_adds_0 6 rfl rfl)
theorem dX1_adds_9 : decode cX1_adds 9 = .ok (.iconst 1, 1) := dk_4 (dk_at dksX1_adds_0 9 rfl rfl)
theorem dX1_adds_10 : decode cX1_adds 10 = .ok (.goto 4, 3) := dk_167 0 4 (dk_at dksX1_adds_0 10 rfl rfl)
theorem dX1_adds_13 : decode cX1_adds 13 = .ok (.iconst 0, 1) := dk_3 (dk_at dksX1_adds_0 13 rfl rfl)
theorem dX1_adds_14 : decode cX1_adds 14 = .ok (.iconst 1, 1) := dk_4 (dk_at dksX1_adds_0 14 rfl rfl)
theorem dX1_adds_15 : decode cX1_adds 15 = .ok (.bipush 10, 2) := dk_16 10 (dk_at dksX1_adds_0 15 rfl rfl)
theorem dX1_adds_17 : decode cX1_adds 17 = .ok (.invokestatic 85, 3) := dk_184 0 85 (dk_at dksX1_adds_0 17 rfl rfl)
theorem dX1_adds_20 : decode cX1_adds 20 = .ok (.aload_n 0, 1) := dk_42 (dk_at dksX1_adds_0 20 rfl rfl)
theorem dX1_adds_21 : decode cX1_adds 21 = .ok (.getfield 14, 3) := dk_180 0 14 (dk_at dksX1_adds_0 21 rfl rfl)
theorem dX1_adds_24 : decode cX1_adds 24 = .ok (.new 42, 3) := dk_187 0 42 (dk_at dksX1_adds_1 0 rfl rfl)
theorem dX1_adds_27 : decode cX1_adds 27 = .ok (.dup, 1) := dk_89 (dk_at dksX1_adds_1 3 rfl rfl)
theorem dX1_adds_28 : decode cX1_adds 28 = .ok (.iload_n 1, 1) := dk_27 (dk_at dksX1_adds_1 4 rfl rfl)
theorem dX1_adds_29 : decode cX1_adds 29 = .ok (.invokespecial 89, 3) := dk_183 0 89 (dk_at dksX1_adds_1 5 rfl rfl)
theorem dX1_adds_32 : decode cX1_adds 32 = .ok (.invokevirtual 48, 3) := dk_182 0 48 (dk_at dksX1_adds_1 8 rfl rfl)
theorem dX1_adds_35 : decode cX1_adds 35 = .ok (.pop, 1) := dk_87 (dk_at dksX1_adds_1 11 rfl rfl)
theorem dX1_adds_36 : decode cX1_adds 36 = .ok (.aload_n 0, 1) := dk_42 (dk_at dksX1_adds_1 12 rfl rfl)
theorem dX1_adds_37 : decode cX1_adds 37 = .ok (.invokevirtual 74, 3) := dk_182 0 74 (dk_at dksX1_adds_1 13 rfl rfl)
theorem dX1_adds_40 : decode cX1_adds 40 = .ok (.iconst 1, 1) := dk_4 (dk_at dksX1_adds_1 16 rfl rfl)
theorem dX1_adds_41 : decode cX1_adds 41 = .ok (.isub, 1) := dk_100 (dk_at dksX1_adds_1 17 rfl rfl)
theorem dX1_adds_42 : decode cX1_adds 42 = .ok (.ireturn, 1) := dk_172 (dk_at dksX1_adds_1 18 rfl rfl)
abbrev cX1_many : ByteArray := prog_4_method_3_code
def yX1_many : MethodName := ⟨RX1, "many", "()I"⟩
def dkwX1_many_0 : List UInt8 := [42, 180, 0, 14, 182, 0, 70, 172]
abbrev dktX1_many_0 : List UInt8 := dkwX1_many_0 ++ []
theorem dksX1_many_0 : cX1_many.data.toList.drop 0 = dktX1_many_0 := by decide +kernel
theorem dX1_many_0 : decode cX1_many 0 = .ok (.aload_n 0, 1) := dk_42 (dk_at dksX1_many_0 0 rfl rfl)
theorem dX1_many_1 : decode cX1_many 1 = .ok (.getfield 14, 3) := dk_180 0 14 (dk_at dksX1_many_0 1 rfl rfl)
theorem dX1_many_4 : decode cX1_many 4 = .ok (.invokevirtual 70, 3) := dk_182 0 70 (dk_at dksX1_many_0 4 rfl rfl)
theorem dX1_many_7 : decode cX1_many 7 = .ok (.ireturn, 1) := dk_172 (dk_at dksX1_many_0 7 rfl rfl)
abbrev cX1_areRooms : ByteArray := prog_4_method_5_code
def yX1_areRooms : MethodName := ⟨RX1, "areRooms", "(II)Z"⟩
def dkwX1_areRooms_0 : List UInt8 := [42, 27, 182, 0, 81, 153, 0, 15, 42, 28, 182, 0, 81, 153, 0, 7, 4, 167, 0, 4, 3, 172]
abbrev dktX1_areRooms_0 : List UInt8 := dkwX1_areRooms_0 ++ []
theorem dksX1_areRooms_0 : cX1_areRooms.data.toList.drop 0 = dktX1_areRooms_0 := by decide +kernel
theorem dX1_areRooms_0 : decode cX1_areRooms 0 = .ok (.aload_n 0, 1) := dk_42 (dk_at dksX1_areRooms_0 0 rfl rfl)
theorem dX1_areRooms_1 : decode cX1_areRooms 1 = .ok (.iload_n 1, 1) := dk_27 (dk_at dksX1_areRooms_0 1 rfl rfl)
theorem dX1_areRooms_2 : decode cX1_areRooms 2 = .ok (.invokevirtual 81, 3) := dk_182 0 81 (dk_at dksX1_areRooms_0 2 rfl rfl)
theorem dX1_areRooms_5 : decode cX1_areRooms 5 = .ok (.ifCond .eq 15, 3) := dk_153 0 15 (dk_at dksX1_areRooms_0 5 rfl rfl)
theorem dX1_areRooms_8 : decode cX1_areRooms 8 = .ok (.aload_n 0, 1) := dk_42 (dk_at dksX1_areRooms_0 8 rfl rfl)
theorem dX1_areRooms_9 : decode cX1_areRooms 9 = .ok (.iload_n 2, 1) := dk_28 (dk_at dksX1_areRooms_0 9 rfl rfl)
theorem dX1_areRooms_10 : decode cX1_areRooms 10 = .ok (.invokevirtual 81, 3) := dk_182 0 81 (dk_at dksX1_areRooms_0 10 rfl rfl)
theorem dX1_areRooms_13 : decode cX1_areRooms 13 = .ok (.ifCond .eq 7, 3) := dk_153 0 7 (dk_at dksX1_areRooms_0 13 rfl rfl)
theorem dX1_areRooms_16 : decode cX1_areRooms 16 = .ok (.iconst 1, 1) := dk_4 (dk_at dksX1_areRooms_0 16 rfl rfl)
theorem dX1_areRooms_17 : decode cX1_areRooms 17 = .ok (.goto 4, 3) := dk_167 0 4 (dk_at dksX1_areRooms_0 17 rfl rfl)
theorem dX1_areRooms_20 : decode cX1_areRooms 20 = .ok (.iconst 0, 1) := dk_3 (dk_at dksX1_areRooms_0 20 rfl rfl)
theorem dX1_areRooms_21 : decode cX1_areRooms 21 = .ok (.ireturn, 1) := dk_172 (dk_at dksX1_areRooms_0 21 rfl rfl)
abbrev cX1_isRoom : ByteArray := prog_4_method_4_code
def yX1_isRoom : MethodName := ⟨RX1, "isRoom", "(I)Z"⟩
def dkwX1_isRoom_0 : List UInt8 := [27, 3, 42, 182, 0, 74, 4, 100, 184, 0, 77, 172]
abbrev dktX1_isRoom_0 : List UInt8 := dkwX1_isRoom_0 ++ []
theorem dksX1_isRoom_0 : cX1_isRoom.data.toList.drop 0 = dktX1_isRoom_0 := by decide +kernel
theorem dX1_isRoom_0 : decode cX1_isRoom 0 = .ok (.iload_n 1, 1) := dk_27 (dk_at dksX1_isRoom_0 0 rfl rfl)
theorem dX1_isRoom_1 : decode cX1_isRoom 1 = .ok (.iconst 0, 1) := dk_3 (dk_at dksX1_isRoom_0 1 rfl rfl)
theorem dX1_isRoom_2 : decode cX1_isRoom 2 = .ok (.aload_n 0, 1) := dk_42 (dk_at dksX1_isRoom_0 2 rfl rfl)
theorem dX1_isRoom_3 : decode cX1_isRoom 3 = .ok (.invokevirtual 74, 3) := dk_182 0 74 (dk_at dksX1_isRoom_0 3 rfl rfl)
theorem dX1_isRoom_6 : decode cX1_isRoom 6 = .ok (.iconst 1, 1) := dk_4 (dk_at dksX1_isRoom_0 6 rfl rfl)
theorem dX1_isRoom_7 : decode cX1_isRoom 7 = .ok (.isub, 1) := dk_100 (dk_at dksX1_isRoom_0 7 rfl rfl)
theorem dX1_isRoom_8 : decode cX1_isRoom 8 = .ok (.invokestatic 77, 3) := dk_184 0 77 (dk_at dksX1_isRoom_0 8 rfl rfl)
theorem dX1_isRoom_11 : decode cX1_isRoom 11 = .ok (.ireturn, 1) := dk_172 (dk_at dksX1_isRoom_0 11 rfl rfl)
abbrev cX1_builds : ByteArray := prog_4_method_9_code
def yX1_builds : MethodName := ⟨RX1, "builds", "(IIII)I"⟩
def dkwX1_builds_4 : List UInt8 := [100, 172]
abbrev dktX1_builds_4 : List UInt8 := dkwX1_builds_4 ++ []
def dkwX1_builds_3 : List UInt8 := [187, 0, 52, 89, 27, 28, 29, 21, 4, 183, 0, 102, 182, 0, 48, 87, 42, 180, 0, 20, 182, 0, 70, 4]
abbrev dktX1_builds_3 : List UInt8 := dkwX1_builds_3 ++ dktX1_builds_4
def dkwX1_builds_2 : List UInt8 := [182, 0, 70, 16, 16, 160, 0, 7, 4, 167, 0, 4, 3, 4, 16, 16, 184, 0, 85, 42, 180, 0, 20]
abbrev dktX1_builds_2 : List UInt8 := dkwX1_builds_2 ++ dktX1_builds_3
def dkwX1_builds_1 : List UInt8 := [21, 5, 17, 252, 13, 159, 0, 7, 4, 167, 0, 4, 3, 6, 21, 5, 184, 0, 85, 42, 180, 0, 20]
abbrev dktX1_builds_1 : List UInt8 := dkwX1_builds_1 ++ dktX1_builds_2
def dkwX1_builds_0 : List UInt8 := [27, 28, 160, 0, 7, 4, 167, 0, 4, 3, 5, 27, 184, 0, 85, 42, 27, 28, 182, 0, 98, 54, 5]
abbrev dktX1_builds_0 : List UInt8 := dkwX1_builds_0 ++ dktX1_builds_1
theorem dksX1_builds_0 : cX1_builds.data.toList.drop 0 = dktX1_builds_0 := by decide +kernel
theorem dksX1_builds_1 : cX1_builds.data.toList.drop 23 = dktX1_builds_1 := dk_seg dksX1_builds_0 23 rfl rfl
theorem dksX1_builds_2 : cX1_builds.data.toList.drop 46 = dktX1_builds_2 := dk_seg dksX1_builds_1 23 rfl rfl
theorem dksX1_builds_3 : cX1_builds.data.toList.drop 69 = dktX1_builds_3 := dk_seg dksX1_builds_2 23 rfl rfl
theorem dksX1_builds_4 : cX1_builds.data.toList.drop 93 = dktX1_builds_4 := dk_seg dksX1_builds_3 24 rfl rfl
theorem dX1_builds_0 : decode cX1_builds 0 = .ok (.iload_n 1, 1) := dk_27 (dk_at dksX1_builds_0 0 rfl rfl)
theorem dX1_builds_1 : decode cX1_builds 1 = .ok (.iload_n 2, 1) := dk_28 (dk_at dksX1_builds_0 1 rfl rfl)
theorem dX1_builds_2 : decode cX1_builds 2 = .ok (.if_icmp .ne 7, 3) := dk_160 0 7 (dk_at dksX1_builds_0 2 rfl rfl)
theorem dX1_builds_5 : decode cX1_builds 5 = .ok (.iconst 1, 1) := dk_4 (dk_at dksX1_builds_0 5 rfl rfl)
theorem dX1_builds_6 : decode cX1_builds 6 = .ok (.goto 4, 3) := dk_167 0 4 (dk_at dksX1_builds_0 6 rfl rfl)
theorem dX1_builds_9 : decode cX1_builds 9 = .ok (.iconst 0, 1) := dk_3 (dk_at dksX1_builds_0 9 rfl rfl)
theorem dX1_builds_10 : decode cX1_builds 10 = .ok (.iconst 2, 1) := dk_5 (dk_at dksX1_builds_0 10 rfl rfl)
theorem dX1_builds_11 : decode cX1_builds 11 = .ok (.iload_n 1, 1) := dk_27 (dk_at dksX1_builds_0 11 rfl rfl)
theorem dX1_builds_12 : decode cX1_builds 12 = .ok (.invokestatic 85, 3) := dk_184 0 85 (dk_at dksX1_builds_0 12 rfl rfl)
theorem dX1_builds_15 : decode cX1_builds 15 = .ok (.aload_n 0, 1) := dk_42 (dk_at dksX1_builds_0 15 rfl rfl)
theorem dX1_builds_16 : decode cX1_builds 16 = .ok (.iload_n 1, 1) := dk_27 (dk_at dksX1_builds_0 16 rfl rfl)
theorem dX1_builds_17 : decode cX1_builds 17 = .ok (.iload_n 2, 1) := dk_28 (dk_at dksX1_builds_0 17 rfl rfl)
theorem dX1_builds_18 : decode cX1_builds 18 = .ok (.invokevirtual 98, 3) := dk_182 0 98 (dk_at dksX1_builds_0 18 rfl rfl)
theorem dX1_builds_21 : decode cX1_builds 21 = .ok (.istore 5, 2) := dk_54 5 (dk_at dksX1_builds_0 21 rfl rfl)
theorem dX1_builds_23 : decode cX1_builds 23 = .ok (.iload 5, 2) := dk_21 5 (dk_at dksX1_builds_1 0 rfl rfl)
theorem dX1_builds_25 : decode cX1_builds 25 = .ok (.sipush (-1011), 3) := dk_17 252 13 (dk_at dksX1_builds_1 2 rfl rfl)
theorem dX1_builds_28 : decode cX1_builds 28 = .ok (.if_icmp .eq 7, 3) := dk_159 0 7 (dk_at dksX1_builds_1 5 rfl rfl)
theorem dX1_builds_31 : decode cX1_builds 31 = .ok (.iconst 1, 1) := dk_4 (dk_at dksX1_builds_1 8 rfl rfl)
theorem dX1_builds_32 : decode cX1_builds 32 = .ok (.goto 4, 3) := dk_167 0 4 (dk_at dksX1_builds_1 9 rfl rfl)
theorem dX1_builds_35 : decode cX1_builds 35 = .ok (.iconst 0, 1) := dk_3 (dk_at dksX1_builds_1 12 rfl rfl)
theorem dX1_builds_36 : decode cX1_builds 36 = .ok (.iconst 3, 1) := dk_6 (dk_at dksX1_builds_1 13 rfl rfl)
theorem dX1_builds_37 : decode cX1_builds 37 = .ok (.iload 5, 2) := dk_21 5 (dk_at dksX1_builds_1 14 rfl rfl)
theorem dX1_builds_39 : decode cX1_builds 39 = .ok (.invokestatic 85, 3) := dk_184 0 85 (dk_at dksX1_builds_1 16 rfl rfl)
theorem dX1_builds_42 : decode cX1_builds 42 = .ok (.aload_n 0, 1) := dk_42 (dk_at dksX1_builds_1 19 rfl rfl)
theorem dX1_builds_43 : decode cX1_builds 43 = .ok (.getfield 20, 3) := dk_180 0 20 (dk_at dksX1_builds_1 20 rfl rfl)
theorem dX1_builds_46 : decode cX1_builds 46 = .ok (.invokevirtual 70, 3) := dk_182 0 70 (dk_at dksX1_builds_2 0 rfl rfl)
theorem dX1_builds_49 : decode cX1_builds 49 = .ok (.bipush 16, 2) := dk_16 16 (dk_at dksX1_builds_2 3 rfl rfl)
theorem dX1_builds_51 : decode cX1_builds 51 = .ok (.if_icmp .ne 7, 3) := dk_160 0 7 (dk_at dksX1_builds_2 5 rfl rfl)
theorem dX1_builds_54 : decode cX1_builds 54 = .ok (.iconst 1, 1) := dk_4 (dk_at dksX1_builds_2 8 rfl rfl)
theorem dX1_builds_55 : decode cX1_builds 55 = .ok (.goto 4, 3) := dk_167 0 4 (dk_at dksX1_builds_2 9 rfl rfl)
theorem dX1_builds_58 : decode cX1_builds 58 = .ok (.iconst 0, 1) := dk_3 (dk_at dksX1_builds_2 12 rfl rfl)
theorem dX1_builds_59 : decode cX1_builds 59 = .ok (.iconst 1, 1) := dk_4 (dk_at dksX1_builds_2 13 rfl rfl)
theorem dX1_builds_60 : decode cX1_builds 60 = .ok (.bipush 16, 2) := dk_16 16 (dk_at dksX1_builds_2 14 rfl rfl)
theorem dX1_builds_62 : decode cX1_builds 62 = .ok (.invokestatic 85, 3) := dk_184 0 85 (dk_at dksX1_builds_2 16 rfl rfl)
theorem dX1_builds_65 : decode cX1_builds 65 = .ok (.aload_n 0, 1) := dk_42 (dk_at dksX1_builds_2 19 rfl rfl)
theorem dX1_builds_66 : decode cX1_builds 66 = .ok (.getfield 20, 3) := dk_180 0 20 (dk_at dksX1_builds_2 20 rfl rfl)
theorem dX1_builds_69 : decode cX1_builds 69 = .ok (.new 52, 3) := dk_187 0 52 (dk_at dksX1_builds_3 0 rfl rfl)
theorem dX1_builds_72 : decode cX1_builds 72 = .ok (.dup, 1) := dk_89 (dk_at dksX1_builds_3 3 rfl rfl)
theorem dX1_builds_73 : decode cX1_builds 73 = .ok (.iload_n 1, 1) := dk_27 (dk_at dksX1_builds_3 4 rfl rfl)
theorem dX1_builds_74 : decode cX1_builds 74 = .ok (.iload_n 2, 1) := dk_28 (dk_at dksX1_builds_3 5 rfl rfl)
theorem dX1_builds_75 : decode cX1_builds 75 = .ok (.iload_n 3, 1) := dk_29 (dk_at dksX1_builds_3 6 rfl rfl)
theorem dX1_builds_76 : decode cX1_builds 76 = .ok (.iload 4, 2) := dk_21 4 (dk_at dksX1_builds_3 7 rfl rfl)
theorem dX1_builds_78 : decode cX1_builds 78 = .ok (.invokespecial 102, 3) := dk_183 0 102 (dk_at dksX1_builds_3 9 rfl rfl)
theorem dX1_builds_81 : decode cX1_builds 81 = .ok (.invokevirtual 48, 3) := dk_182 0 48 (dk_at dksX1_builds_3 12 rfl rfl)
theorem dX1_builds_84 : decode cX1_builds 84 = .ok (.pop, 1) := dk_87 (dk_at dksX1_builds_3 15 rfl rfl)
theorem dX1_builds_85 : decode cX1_builds 85 = .ok (.aload_n 0, 1) := dk_42 (dk_at dksX1_builds_3 16 rfl rfl)
theorem dX1_builds_86 : decode cX1_builds 86 = .ok (.getfield 20, 3) := dk_180 0 20 (dk_at dksX1_builds_3 17 rfl rfl)
theorem dX1_builds_89 : decode cX1_builds 89 = .ok (.invokevirtual 70, 3) := dk_182 0 70 (dk_at dksX1_builds_3 20 rfl rfl)
theorem dX1_builds_92 : decode cX1_builds 92 = .ok (.iconst 1, 1) := dk_4 (dk_at dksX1_builds_3 23 rfl rfl)
theorem dX1_builds_93 : decode cX1_builds 93 = .ok (.isub, 1) := dk_100 (dk_at dksX1_builds_4 0 rfl rfl)
theorem dX1_builds_94 : decode cX1_builds 94 = .ok (.ireturn, 1) := dk_172 (dk_at dksX1_builds_4 1 rfl rfl)
abbrev cX1_between : ByteArray := prog_4_method_8_code
def yX1_between : MethodName := ⟨RX1, "between", "(II)I"⟩
def dkwX1_between_1 : List UInt8 := [27, 28, 182, 0, 94, 153, 0, 5, 29, 172, 132, 3, 1, 167, 255, 221, 17, 252, 13, 172]
abbrev dktX1_between_1 : List UInt8 := dkwX1_between_1 ++ []
def dkwX1_between_0 : List UInt8 := [3, 62, 29, 42, 180, 0, 20, 182, 0, 70, 162, 0, 30, 42, 180, 0, 20, 29, 182, 0, 90, 192, 0, 52]
abbrev dktX1_between_0 : List UInt8 := dkwX1_between_0 ++ dktX1_between_1
theorem dksX1_between_0 : cX1_between.data.toList.drop 0 = dktX1_between_0 := by decide +kernel
theorem dksX1_between_1 : cX1_between.data.toList.drop 24 = dktX1_between_1 := dk_seg dksX1_between_0 24 rfl rfl
theorem dX1_between_0 : decode cX1_between 0 = .ok (.iconst 0, 1) := dk_3 (dk_at dksX1_between_0 0 rfl rfl)
theorem dX1_between_1 : decode cX1_between 1 = .ok (.istore_n 3, 1) := dk_62 (dk_at dksX1_between_0 1 rfl rfl)
theorem dX1_between_2 : decode cX1_between 2 = .ok (.iload_n 3, 1) := dk_29 (dk_at dksX1_between_0 2 rfl rfl)
theorem dX1_between_3 : decode cX1_between 3 = .ok (.aload_n 0, 1) := dk_42 (dk_at dksX1_between_0 3 rfl rfl)
theorem dX1_between_4 : decode cX1_between 4 = .ok (.getfield 20, 3) := dk_180 0 20 (dk_at dksX1_between_0 4 rfl rfl)
theorem dX1_between_7 : decode cX1_between 7 = .ok (.invokevirtual 70, 3) := dk_182 0 70 (dk_at dksX1_between_0 7 rfl rfl)
theorem dX1_between_10 : decode cX1_between 10 = .ok (.if_icmp .ge 30, 3) := dk_162 0 30 (dk_at dksX1_between_0 10 rfl rfl)
theorem dX1_between_13 : decode cX1_between 13 = .ok (.aload_n 0, 1) := dk_42 (dk_at dksX1_between_0 13 rfl rfl)
theorem dX1_between_14 : decode cX1_between 14 = .ok (.getfield 20, 3) := dk_180 0 20 (dk_at dksX1_between_0 14 rfl rfl)
theorem dX1_between_17 : decode cX1_between 17 = .ok (.iload_n 3, 1) := dk_29 (dk_at dksX1_between_0 17 rfl rfl)
theorem dX1_between_18 : decode cX1_between 18 = .ok (.invokevirtual 90, 3) := dk_182 0 90 (dk_at dksX1_between_0 18 rfl rfl)
theorem dX1_between_21 : decode cX1_between 21 = .ok (.checkcast 52, 3) := dk_192 0 52 (dk_at dksX1_between_0 21 rfl rfl)
theorem dX1_between_24 : decode cX1_between 24 = .ok (.iload_n 1, 1) := dk_27 (dk_at dksX1_between_1 0 rfl rfl)
theorem dX1_between_25 : decode cX1_between 25 = .ok (.iload_n 2, 1) := dk_28 (dk_at dksX1_between_1 1 rfl rfl)
theorem dX1_between_26 : decode cX1_between 26 = .ok (.invokevirtual 94, 3) := dk_182 0 94 (dk_at dksX1_between_1 2 rfl rfl)
theorem dX1_between_29 : decode cX1_between 29 = .ok (.ifCond .eq 5, 3) := dk_153 0 5 (dk_at dksX1_between_1 5 rfl rfl)
theorem dX1_between_32 : decode cX1_between 32 = .ok (.iload_n 3, 1) := dk_29 (dk_at dksX1_between_1 8 rfl rfl)
theorem dX1_between_33 : decode cX1_between 33 = .ok (.ireturn, 1) := dk_172 (dk_at dksX1_between_1 9 rfl rfl)
theorem dX1_between_34 : decode cX1_between 34 = .ok (.iinc 3 1, 3) := dk_132 3 1 (dk_at dksX1_between_1 10 rfl rfl)
theorem dX1_between_37 : decode cX1_between 37 = .ok (.goto (-35), 3) := dk_167 255 221 (dk_at dksX1_between_1 13 rfl rfl)
theorem dX1_between_40 : decode cX1_between 40 = .ok (.sipush (-1011), 3) := dk_17 252 13 (dk_at dksX1_between_1 16 rfl rfl)
theorem dX1_between_43 : decode cX1_between 43 = .ok (.ireturn, 1) := dk_172 (dk_at dksX1_between_1 19 rfl rfl)
abbrev cX1_lays : ByteArray := prog_4_method_10_code
def yX1_lays : MethodName := ⟨RX1, "lays", "(II)I"⟩
def dkwX1_lays_2 : List UInt8 := [96, 181, 0, 61, 45, 28, 46, 172]
abbrev dktX1_lays_2 : List UInt8 := dkwX1_lays_2 ++ []
def dkwX1_lays_1 : List UInt8 := [167, 0, 4, 3, 16, 10, 16, 10, 184, 0, 85, 45, 28, 92, 46, 4, 96, 79, 42, 89, 180, 0, 61, 4]
abbrev dktX1_lays_1 : List UInt8 := dkwX1_lays_1 ++ dktX1_lays_2
def dkwX1_lays_0 : List UInt8 := [42, 180, 0, 14, 27, 182, 0, 90, 192, 0, 42, 180, 0, 105, 78, 45, 28, 46, 16, 9, 160, 0, 7, 4]
abbrev dktX1_lays_0 : List UInt8 := dkwX1_lays_0 ++ dktX1_lays_1
theorem dksX1_lays_0 : cX1_lays.data.toList.drop 0 = dktX1_lays_0 := by decide +kernel
theorem dksX1_lays_1 : cX1_lays.data.toList.drop 24 = dktX1_lays_1 := dk_seg dksX1_lays_0 24 rfl rfl
theorem dksX1_lays_2 : cX1_lays.data.toList.drop 48 = dktX1_lays_2 := dk_seg dksX1_lays_1 24 rfl rfl
theorem dX1_lays_0 : decode cX1_lays 0 = .ok (.aload_n 0, 1) := dk_42 (dk_at dksX1_lays_0 0 rfl rfl)
theorem dX1_lays_1 : decode cX1_lays 1 = .ok (.getfield 14, 3) := dk_180 0 14 (dk_at dksX1_lays_0 1 rfl rfl)
theorem dX1_lays_4 : decode cX1_lays 4 = .ok (.iload_n 1, 1) := dk_27 (dk_at dksX1_lays_0 4 rfl rfl)
theorem dX1_lays_5 : decode cX1_lays 5 = .ok (.invokevirtual 90, 3) := dk_182 0 90 (dk_at dksX1_lays_0 5 rfl rfl)
theorem dX1_lays_8 : decode cX1_lays 8 = .ok (.checkcast 42, 3) := dk_192 0 42 (dk_at dksX1_lays_0 8 rfl rfl)
theorem dX1_lays_11 : decode cX1_lays 11 = .ok (.getfield 105, 3) := dk_180 0 105 (dk_at dksX1_lays_0 11 rfl rfl)
theorem dX1_lays_14 : decode cX1_lays 14 = .ok (.astore_n 3, 1) := dk_78 (dk_at dksX1_lays_0 14 rfl rfl)
theorem dX1_lays_15 : decode cX1_lays 15 = .ok (.aload_n 3, 1) := dk_45 (dk_at dksX1_lays_0 15 rfl rfl)
theorem dX1_lays_16 : decode cX1_lays 16 = .ok (.iload_n 2, 1) := dk_28 (dk_at dksX1_lays_0 16 rfl rfl)
theorem dX1_lays_17 : decode cX1_lays 17 = .ok (.iaload, 1) := dk_46 (dk_at dksX1_lays_0 17 rfl rfl)
theorem dX1_lays_18 : decode cX1_lays 18 = .ok (.bipush 9, 2) := dk_16 9 (dk_at dksX1_lays_0 18 rfl rfl)
theorem dX1_lays_20 : decode cX1_lays 20 = .ok (.if_icmp .ne 7, 3) := dk_160 0 7 (dk_at dksX1_lays_0 20 rfl rfl)
theorem dX1_lays_23 : decode cX1_lays 23 = .ok (.iconst 1, 1) := dk_4 (dk_at dksX1_lays_0 23 rfl rfl)
theorem dX1_lays_24 : decode cX1_lays 24 = .ok (.goto 4, 3) := dk_167 0 4 (dk_at dksX1_lays_1 0 rfl rfl)
theorem dX1_lays_27 : decode cX1_lays 27 = .ok (.iconst 0, 1) := dk_3 (dk_at dksX1_lays_1 3 rfl rfl)
theorem dX1_lays_28 : decode cX1_lays 28 = .ok (.bipush 10, 2) := dk_16 10 (dk_at dksX1_lays_1 4 rfl rfl)
theorem dX1_lays_30 : decode cX1_lays 30 = .ok (.bipush 10, 2) := dk_16 10 (dk_at dksX1_lays_1 6 rfl rfl)
theorem dX1_lays_32 : decode cX1_lays 32 = .ok (.invokestatic 85, 3) := dk_184 0 85 (dk_at dksX1_lays_1 8 rfl rfl)
theorem dX1_lays_35 : decode cX1_lays 35 = .ok (.aload_n 3, 1) := dk_45 (dk_at dksX1_lays_1 11 rfl rfl)
theorem dX1_lays_36 : decode cX1_lays 36 = .ok (.iload_n 2, 1) := dk_28 (dk_at dksX1_lays_1 12 rfl rfl)
theorem dX1_lays_37 : decode cX1_lays 37 = .ok (.dup2, 1) := dk_92 (dk_at dksX1_lays_1 13 rfl rfl)
theorem dX1_lays_38 : decode cX1_lays 38 = .ok (.iaload, 1) := dk_46 (dk_at dksX1_lays_1 14 rfl rfl)
theorem dX1_lays_39 : decode cX1_lays 39 = .ok (.iconst 1, 1) := dk_4 (dk_at dksX1_lays_1 15 rfl rfl)
theorem dX1_lays_40 : decode cX1_lays 40 = .ok (.iadd, 1) := dk_96 (dk_at dksX1_lays_1 16 rfl rfl)
theorem dX1_lays_41 : decode cX1_lays 41 = .ok (.iastore, 1) := dk_79 (dk_at dksX1_lays_1 17 rfl rfl)
theorem dX1_lays_42 : decode cX1_lays 42 = .ok (.aload_n 0, 1) := dk_42 (dk_at dksX1_lays_1 18 rfl rfl)
theorem dX1_lays_43 : decode cX1_lays 43 = .ok (.dup, 1) := dk_89 (dk_at dksX1_lays_1 19 rfl rfl)
theorem dX1_lays_44 : decode cX1_lays 44 = .ok (.getfield 61, 3) := dk_180 0 61 (dk_at dksX1_lays_1 20 rfl rfl)
theorem dX1_lays_47 : decode cX1_lays 47 = .ok (.iconst 1, 1) := dk_4 (dk_at dksX1_lays_1 23 rfl rfl)
theorem dX1_lays_48 : decode cX1_lays 48 = .ok (.iadd, 1) := dk_96 (dk_at dksX1_lays_2 0 rfl rfl)
theorem dX1_lays_49 : decode cX1_lays 49 = .ok (.putfield 61, 3) := dk_181 0 61 (dk_at dksX1_lays_2 1 rfl rfl)
theorem dX1_lays_52 : decode cX1_lays 52 = .ok (.aload_n 3, 1) := dk_45 (dk_at dksX1_lays_2 4 rfl rfl)
theorem dX1_lays_53 : decode cX1_lays 53 = .ok (.iload_n 2, 1) := dk_28 (dk_at dksX1_lays_2 5 rfl rfl)
theorem dX1_lays_54 : decode cX1_lays 54 = .ok (.iaload, 1) := dk_46 (dk_at dksX1_lays_2 6 rfl rfl)
theorem dX1_lays_55 : decode cX1_lays 55 = .ok (.ireturn, 1) := dk_172 (dk_at dksX1_lays_2 7 rfl rfl)
abbrev cX1_oils : ByteArray := prog_4_method_11_code
def yX1_oils : MethodName := ⟨RX1, "oils", "(II)I"⟩
def dkwX1_oils_2 : List UInt8 := [181, 0, 108, 45, 180, 0, 108, 172]
abbrev dktX1_oils_2 : List UInt8 := dkwX1_oils_2 ++ []
def dkwX1_oils_1 : List UInt8 := [167, 0, 4, 3, 16, 10, 45, 180, 0, 108, 28, 96, 184, 0, 85, 45, 89, 180, 0, 108, 28, 96]
abbrev dktX1_oils_1 : List UInt8 := dkwX1_oils_1 ++ dktX1_oils_2
def dkwX1_oils_0 : List UInt8 := [42, 180, 0, 14, 27, 182, 0, 90, 192, 0, 42, 78, 45, 180, 0, 108, 28, 96, 16, 50, 164, 0, 7, 4]
abbrev dktX1_oils_0 : List UInt8 := dkwX1_oils_0 ++ dktX1_oils_1
theorem dksX1_oils_0 : cX1_oils.data.toList.drop 0 = dktX1_oils_0 := by decide +kernel
theorem dksX1_oils_1 : cX1_oils.data.toList.drop 24 = dktX1_oils_1 := dk_seg dksX1_oils_0 24 rfl rfl
theorem dksX1_oils_2 : cX1_oils.data.toList.drop 46 = dktX1_oils_2 := dk_seg dksX1_oils_1 22 rfl rfl
theorem dX1_oils_0 : decode cX1_oils 0 = .ok (.aload_n 0, 1) := dk_42 (dk_at dksX1_oils_0 0 rfl rfl)
theorem dX1_oils_1 : decode cX1_oils 1 = .ok (.getfield 14, 3) := dk_180 0 14 (dk_at dksX1_oils_0 1 rfl rfl)
theorem dX1_oils_4 : decode cX1_oils 4 = .ok (.iload_n 1, 1) := dk_27 (dk_at dksX1_oils_0 4 rfl rfl)
theorem dX1_oils_5 : decode cX1_oils 5 = .ok (.invokevirtual 90, 3) := dk_182 0 90 (dk_at dksX1_oils_0 5 rfl rfl)
theorem dX1_oils_8 : decode cX1_oils 8 = .ok (.checkcast 42, 3) := dk_192 0 42 (dk_at dksX1_oils_0 8 rfl rfl)
theorem dX1_oils_11 : decode cX1_oils 11 = .ok (.astore_n 3, 1) := dk_78 (dk_at dksX1_oils_0 11 rfl rfl)
theorem dX1_oils_12 : decode cX1_oils 12 = .ok (.aload_n 3, 1) := dk_45 (dk_at dksX1_oils_0 12 rfl rfl)
theorem dX1_oils_13 : decode cX1_oils 13 = .ok (.getfield 108, 3) := dk_180 0 108 (dk_at dksX1_oils_0 13 rfl rfl)
theorem dX1_oils_16 : decode cX1_oils 16 = .ok (.iload_n 2, 1) := dk_28 (dk_at dksX1_oils_0 16 rfl rfl)
theorem dX1_oils_17 : decode cX1_oils 17 = .ok (.iadd, 1) := dk_96 (dk_at dksX1_oils_0 17 rfl rfl)
theorem dX1_oils_18 : decode cX1_oils 18 = .ok (.bipush 50, 2) := dk_16 50 (dk_at dksX1_oils_0 18 rfl rfl)
theorem dX1_oils_20 : decode cX1_oils 20 = .ok (.if_icmp .le 7, 3) := dk_164 0 7 (dk_at dksX1_oils_0 20 rfl rfl)
theorem dX1_oils_23 : decode cX1_oils 23 = .ok (.iconst 1, 1) := dk_4 (dk_at dksX1_oils_0 23 rfl rfl)
theorem dX1_oils_24 : decode cX1_oils 24 = .ok (.goto 4, 3) := dk_167 0 4 (dk_at dksX1_oils_1 0 rfl rfl)
theorem dX1_oils_27 : decode cX1_oils 27 = .ok (.iconst 0, 1) := dk_3 (dk_at dksX1_oils_1 3 rfl rfl)
theorem dX1_oils_28 : decode cX1_oils 28 = .ok (.bipush 10, 2) := dk_16 10 (dk_at dksX1_oils_1 4 rfl rfl)
theorem dX1_oils_30 : decode cX1_oils 30 = .ok (.aload_n 3, 1) := dk_45 (dk_at dksX1_oils_1 6 rfl rfl)
theorem dX1_oils_31 : decode cX1_oils 31 = .ok (.getfield 108, 3) := dk_180 0 108 (dk_at dksX1_oils_1 7 rfl rfl)
theorem dX1_oils_34 : decode cX1_oils 34 = .ok (.iload_n 2, 1) := dk_28 (dk_at dksX1_oils_1 10 rfl rfl)
theorem dX1_oils_35 : decode cX1_oils 35 = .ok (.iadd, 1) := dk_96 (dk_at dksX1_oils_1 11 rfl rfl)
theorem dX1_oils_36 : decode cX1_oils 36 = .ok (.invokestatic 85, 3) := dk_184 0 85 (dk_at dksX1_oils_1 12 rfl rfl)
theorem dX1_oils_39 : decode cX1_oils 39 = .ok (.aload_n 3, 1) := dk_45 (dk_at dksX1_oils_1 15 rfl rfl)
theorem dX1_oils_40 : decode cX1_oils 40 = .ok (.dup, 1) := dk_89 (dk_at dksX1_oils_1 16 rfl rfl)
theorem dX1_oils_41 : decode cX1_oils 41 = .ok (.getfield 108, 3) := dk_180 0 108 (dk_at dksX1_oils_1 17 rfl rfl)
theorem dX1_oils_44 : decode cX1_oils 44 = .ok (.iload_n 2, 1) := dk_28 (dk_at dksX1_oils_1 20 rfl rfl)
theorem dX1_oils_45 : decode cX1_oils 45 = .ok (.iadd, 1) := dk_96 (dk_at dksX1_oils_1 21 rfl rfl)
theorem dX1_oils_46 : decode cX1_oils 46 = .ok (.putfield 108, 3) := dk_181 0 108 (dk_at dksX1_oils_2 0 rfl rfl)
theorem dX1_oils_49 : decode cX1_oils 49 = .ok (.aload_n 3, 1) := dk_45 (dk_at dksX1_oils_2 3 rfl rfl)
theorem dX1_oils_50 : decode cX1_oils 50 = .ok (.getfield 108, 3) := dk_180 0 108 (dk_at dksX1_oils_2 4 rfl rfl)
theorem dX1_oils_53 : decode cX1_oils 53 = .ok (.ireturn, 1) := dk_172 (dk_at dksX1_oils_2 7 rfl rfl)
abbrev cX1_ofRoom : ByteArray := prog_4_method_44_code
def yX1_ofRoom : MethodName := ⟨RX1, "ofRoom", "(II)I"⟩
def dkwX1_ofRoom_4 : List UInt8 := [180, 0, 54, 27, 42, 180, 0, 58, 5, 112, 182, 1, 17, 167, 0, 6, 17, 252, 12, 172]
abbrev dktX1_ofRoom_4 : List UInt8 := dkwX1_ofRoom_4 ++ []
def dkwX1_ofRoom_3 : List UInt8 := [167, 0, 43, 42, 182, 1, 51, 27, 182, 1, 55, 153, 0, 7, 4, 167, 0, 28, 3, 167, 0, 24, 42, 42]
abbrev dktX1_ofRoom_3 : List UInt8 := dkwX1_ofRoom_3 ++ dktX1_ofRoom_4
def dkwX1_ofRoom_2 : List UInt8 := [45, 180, 0, 108, 167, 0, 62, 45, 180, 0, 105, 28, 4, 100, 46, 167, 0, 51, 42, 27, 182, 1, 48]
abbrev dktX1_ofRoom_2 : List UInt8 := dkwX1_ofRoom_2 ++ dktX1_ofRoom_3
def dkwX1_ofRoom_1 : List UInt8 := [170, 0, 0, 0, 0, 0, 106, 0, 0, 0, 0, 0, 0, 0, 6, 0, 0, 0, 43, 0, 0, 0, 50, 0, 0, 0, 50, 0, 0, 0, 50, 0, 0, 0, 61, 0, 0, 0, 69, 0, 0, 0, 88]
abbrev dktX1_ofRoom_1 : List UInt8 := dkwX1_ofRoom_1 ++ dktX1_ofRoom_2
def dkwX1_ofRoom_0 : List UInt8 := [42, 180, 0, 14, 27, 182, 0, 90, 192, 0, 42, 78, 28]
abbrev dktX1_ofRoom_0 : List UInt8 := dkwX1_ofRoom_0 ++ dktX1_ofRoom_1
theorem dksX1_ofRoom_0 : cX1_ofRoom.data.toList.drop 0 = dktX1_ofRoom_0 := by decide +kernel
theorem dksX1_ofRoom_1 : cX1_ofRoom.data.toList.drop 13 = dktX1_ofRoom_1 := dk_seg dksX1_ofRoom_0 13 rfl rfl
theorem dksX1_ofRoom_2 : cX1_ofRoom.data.toList.drop 56 = dktX1_ofRoom_2 := dk_seg dksX1_ofRoom_1 43 rfl rfl
theorem dksX1_ofRoom_3 : cX1_ofRoom.data.toList.drop 79 = dktX1_ofRoom_3 := dk_seg dksX1_ofRoom_2 23 rfl rfl
theorem dksX1_ofRoom_4 : cX1_ofRoom.data.toList.drop 103 = dktX1_ofRoom_4 := dk_seg dksX1_ofRoom_3 24 rfl rfl
theorem dX1_ofRoom_0 : decode cX1_ofRoom 0 = .ok (.aload_n 0, 1) := dk_42 (dk_at dksX1_ofRoom_0 0 rfl rfl)
theorem dX1_ofRoom_1 : decode cX1_ofRoom 1 = .ok (.getfield 14, 3) := dk_180 0 14 (dk_at dksX1_ofRoom_0 1 rfl rfl)
theorem dX1_ofRoom_4 : decode cX1_ofRoom 4 = .ok (.iload_n 1, 1) := dk_27 (dk_at dksX1_ofRoom_0 4 rfl rfl)
theorem dX1_ofRoom_5 : decode cX1_ofRoom 5 = .ok (.invokevirtual 90, 3) := dk_182 0 90 (dk_at dksX1_ofRoom_0 5 rfl rfl)
theorem dX1_ofRoom_8 : decode cX1_ofRoom 8 = .ok (.checkcast 42, 3) := dk_192 0 42 (dk_at dksX1_ofRoom_0 8 rfl rfl)
theorem dX1_ofRoom_11 : decode cX1_ofRoom 11 = .ok (.astore_n 3, 1) := dk_78 (dk_at dksX1_ofRoom_0 11 rfl rfl)
theorem dX1_ofRoom_12 : decode cX1_ofRoom 12 = .ok (.iload_n 2, 1) := dk_28 (dk_at dksX1_ofRoom_0 12 rfl rfl)
theorem dX1_ofRoom_13 : decode cX1_ofRoom 13 = .ok (.tableswitch 106 0 6 #[43, 50, 50, 50, 61, 69, 88], 43) := by decide +kernel
theorem dX1_ofRoom_56 : decode cX1_ofRoom 56 = .ok (.aload_n 3, 1) := dk_45 (dk_at dksX1_ofRoom_2 0 rfl rfl)
theorem dX1_ofRoom_57 : decode cX1_ofRoom 57 = .ok (.getfield 108, 3) := dk_180 0 108 (dk_at dksX1_ofRoom_2 1 rfl rfl)
theorem dX1_ofRoom_60 : decode cX1_ofRoom 60 = .ok (.goto 62, 3) := dk_167 0 62 (dk_at dksX1_ofRoom_2 4 rfl rfl)
theorem dX1_ofRoom_63 : decode cX1_ofRoom 63 = .ok (.aload_n 3, 1) := dk_45 (dk_at dksX1_ofRoom_2 7 rfl rfl)
theorem dX1_ofRoom_64 : decode cX1_ofRoom 64 = .ok (.getfield 105, 3) := dk_180 0 105 (dk_at dksX1_ofRoom_2 8 rfl rfl)
theorem dX1_ofRoom_67 : decode cX1_ofRoom 67 = .ok (.iload_n 2, 1) := dk_28 (dk_at dksX1_ofRoom_2 11 rfl rfl)
theorem dX1_ofRoom_68 : decode cX1_ofRoom 68 = .ok (.iconst 1, 1) := dk_4 (dk_at dksX1_ofRoom_2 12 rfl rfl)
theorem dX1_ofRoom_69 : decode cX1_ofRoom 69 = .ok (.isub, 1) := dk_100 (dk_at dksX1_ofRoom_2 13 rfl rfl)
theorem dX1_ofRoom_70 : decode cX1_ofRoom 70 = .ok (.iaload, 1) := dk_46 (dk_at dksX1_ofRoom_2 14 rfl rfl)
theorem dX1_ofRoom_71 : decode cX1_ofRoom 71 = .ok (.goto 51, 3) := dk_167 0 51 (dk_at dksX1_ofRoom_2 15 rfl rfl)
theorem dX1_ofRoom_74 : decode cX1_ofRoom 74 = .ok (.aload_n 0, 1) := dk_42 (dk_at dksX1_ofRoom_2 18 rfl rfl)
theorem dX1_ofRoom_75 : decode cX1_ofRoom 75 = .ok (.iload_n 1, 1) := dk_27 (dk_at dksX1_ofRoom_2 19 rfl rfl)
theorem dX1_ofRoom_76 : decode cX1_ofRoom 76 = .ok (.invokevirtual 304, 3) := dk_182 1 48 (dk_at dksX1_ofRoom_2 20 rfl rfl)
theorem dX1_ofRoom_79 : decode cX1_ofRoom 79 = .ok (.goto 43, 3) := dk_167 0 43 (dk_at dksX1_ofRoom_3 0 rfl rfl)
theorem dX1_ofRoom_82 : decode cX1_ofRoom 82 = .ok (.aload_n 0, 1) := dk_42 (dk_at dksX1_ofRoom_3 3 rfl rfl)
theorem dX1_ofRoom_83 : decode cX1_ofRoom 83 = .ok (.invokevirtual 307, 3) := dk_182 1 51 (dk_at dksX1_ofRoom_3 4 rfl rfl)
theorem dX1_ofRoom_86 : decode cX1_ofRoom 86 = .ok (.iload_n 1, 1) := dk_27 (dk_at dksX1_ofRoom_3 7 rfl rfl)
theorem dX1_ofRoom_87 : decode cX1_ofRoom 87 = .ok (.invokevirtual 311, 3) := dk_182 1 55 (dk_at dksX1_ofRoom_3 8 rfl rfl)
theorem dX1_ofRoom_90 : decode cX1_ofRoom 90 = .ok (.ifCond .eq 7, 3) := dk_153 0 7 (dk_at dksX1_ofRoom_3 11 rfl rfl)
theorem dX1_ofRoom_93 : decode cX1_ofRoom 93 = .ok (.iconst 1, 1) := dk_4 (dk_at dksX1_ofRoom_3 14 rfl rfl)
theorem dX1_ofRoom_94 : decode cX1_ofRoom 94 = .ok (.goto 28, 3) := dk_167 0 28 (dk_at dksX1_ofRoom_3 15 rfl rfl)
theorem dX1_ofRoom_97 : decode cX1_ofRoom 97 = .ok (.iconst 0, 1) := dk_3 (dk_at dksX1_ofRoom_3 18 rfl rfl)
theorem dX1_ofRoom_98 : decode cX1_ofRoom 98 = .ok (.goto 24, 3) := dk_167 0 24 (dk_at dksX1_ofRoom_3 19 rfl rfl)
theorem dX1_ofRoom_101 : decode cX1_ofRoom 101 = .ok (.aload_n 0, 1) := dk_42 (dk_at dksX1_ofRoom_3 22 rfl rfl)
theorem dX1_ofRoom_102 : decode cX1_ofRoom 102 = .ok (.aload_n 0, 1) := dk_42 (dk_at dksX1_ofRoom_3 23 rfl rfl)
theorem dX1_ofRoom_103 : decode cX1_ofRoom 103 = .ok (.getfield 54, 3) := dk_180 0 54 (dk_at dksX1_ofRoom_4 0 rfl rfl)
theorem dX1_ofRoom_106 : decode cX1_ofRoom 106 = .ok (.iload_n 1, 1) := dk_27 (dk_at dksX1_ofRoom_4 3 rfl rfl)
theorem dX1_ofRoom_107 : decode cX1_ofRoom 107 = .ok (.aload_n 0, 1) := dk_42 (dk_at dksX1_ofRoom_4 4 rfl rfl)
theorem dX1_ofRoom_108 : decode cX1_ofRoom 108 = .ok (.getfield 58, 3) := dk_180 0 58 (dk_at dksX1_ofRoom_4 5 rfl rfl)
theorem dX1_ofRoom_111 : decode cX1_ofRoom 111 = .ok (.iconst 2, 1) := dk_5 (dk_at dksX1_ofRoom_4 8 rfl rfl)
theorem dX1_ofRoom_112 : decode cX1_ofRoom 112 = .ok (.irem, 1) := dk_112 (dk_at dksX1_ofRoom_4 9 rfl rfl)
theorem dX1_ofRoom_113 : decode cX1_ofRoom 113 = .ok (.invokevirtual 273, 3) := dk_182 1 17 (dk_at dksX1_ofRoom_4 10 rfl rfl)
theorem dX1_ofRoom_116 : decode cX1_ofRoom 116 = .ok (.goto 6, 3) := dk_167 0 6 (dk_at dksX1_ofRoom_4 13 rfl rfl)
theorem dX1_ofRoom_119 : decode cX1_ofRoom 119 = .ok (.sipush (-1012), 3) := dk_17 252 12 (dk_at dksX1_ofRoom_4 16 rfl rfl)
theorem dX1_ofRoom_122 : decode cX1_ofRoom 122 = .ok (.ireturn, 1) := dk_172 (dk_at dksX1_ofRoom_4 19 rfl rfl)
abbrev cX1_doorsOf : ByteArray := prog_4_method_43_code
def yX1_doorsOf : MethodName := ⟨RX1, "doorsOf", "(I)I"⟩
def dkwX1_doorsOf_2 : List UInt8 := [3, 96, 61, 167, 255, 219, 28, 172]
abbrev dktX1_doorsOf_2 : List UInt8 := dkwX1_doorsOf_2 ++ []
def dkwX1_doorsOf_1 : List UInt8 := [185, 0, 38, 1, 0, 192, 0, 52, 58, 4, 28, 25, 4, 27, 182, 0, 119, 153, 0, 7, 4, 167, 0, 4]
abbrev dktX1_doorsOf_1 : List UInt8 := dkwX1_doorsOf_1 ++ dktX1_doorsOf_2
def dkwX1_doorsOf_0 : List UInt8 := [3, 61, 42, 180, 0, 20, 182, 0, 28, 78, 45, 185, 0, 32, 1, 0, 153, 0, 34, 45]
abbrev dktX1_doorsOf_0 : List UInt8 := dkwX1_doorsOf_0 ++ dktX1_doorsOf_1
theorem dksX1_doorsOf_0 : cX1_doorsOf.data.toList.drop 0 = dktX1_doorsOf_0 := by decide +kernel
theorem dksX1_doorsOf_1 : cX1_doorsOf.data.toList.drop 20 = dktX1_doorsOf_1 := dk_seg dksX1_doorsOf_0 20 rfl rfl
theorem dksX1_doorsOf_2 : cX1_doorsOf.data.toList.drop 44 = dktX1_doorsOf_2 := dk_seg dksX1_doorsOf_1 24 rfl rfl
theorem dX1_doorsOf_0 : decode cX1_doorsOf 0 = .ok (.iconst 0, 1) := dk_3 (dk_at dksX1_doorsOf_0 0 rfl rfl)
theorem dX1_doorsOf_1 : decode cX1_doorsOf 1 = .ok (.istore_n 2, 1) := dk_61 (dk_at dksX1_doorsOf_0 1 rfl rfl)
theorem dX1_doorsOf_2 : decode cX1_doorsOf 2 = .ok (.aload_n 0, 1) := dk_42 (dk_at dksX1_doorsOf_0 2 rfl rfl)
theorem dX1_doorsOf_3 : decode cX1_doorsOf 3 = .ok (.getfield 20, 3) := dk_180 0 20 (dk_at dksX1_doorsOf_0 3 rfl rfl)
theorem dX1_doorsOf_6 : decode cX1_doorsOf 6 = .ok (.invokevirtual 28, 3) := dk_182 0 28 (dk_at dksX1_doorsOf_0 6 rfl rfl)
theorem dX1_doorsOf_9 : decode cX1_doorsOf 9 = .ok (.astore_n 3, 1) := dk_78 (dk_at dksX1_doorsOf_0 9 rfl rfl)
theorem dX1_doorsOf_10 : decode cX1_doorsOf 10 = .ok (.aload_n 3, 1) := dk_45 (dk_at dksX1_doorsOf_0 10 rfl rfl)
theorem dX1_doorsOf_11 : decode cX1_doorsOf 11 = .ok (.invokeinterface 32 1, 5) := by decide +kernel
theorem dX1_doorsOf_16 : decode cX1_doorsOf 16 = .ok (.ifCond .eq 34, 3) := dk_153 0 34 (dk_at dksX1_doorsOf_0 16 rfl rfl)
theorem dX1_doorsOf_19 : decode cX1_doorsOf 19 = .ok (.aload_n 3, 1) := dk_45 (dk_at dksX1_doorsOf_0 19 rfl rfl)
theorem dX1_doorsOf_20 : decode cX1_doorsOf 20 = .ok (.invokeinterface 38 1, 5) := by decide +kernel
theorem dX1_doorsOf_25 : decode cX1_doorsOf 25 = .ok (.checkcast 52, 3) := dk_192 0 52 (dk_at dksX1_doorsOf_1 5 rfl rfl)
theorem dX1_doorsOf_28 : decode cX1_doorsOf 28 = .ok (.astore 4, 2) := dk_58 4 (dk_at dksX1_doorsOf_1 8 rfl rfl)
theorem dX1_doorsOf_30 : decode cX1_doorsOf 30 = .ok (.iload_n 2, 1) := dk_28 (dk_at dksX1_doorsOf_1 10 rfl rfl)
theorem dX1_doorsOf_31 : decode cX1_doorsOf 31 = .ok (.aload 4, 2) := dk_25 4 (dk_at dksX1_doorsOf_1 11 rfl rfl)
theorem dX1_doorsOf_33 : decode cX1_doorsOf 33 = .ok (.iload_n 1, 1) := dk_27 (dk_at dksX1_doorsOf_1 13 rfl rfl)
theorem dX1_doorsOf_34 : decode cX1_doorsOf 34 = .ok (.invokevirtual 119, 3) := dk_182 0 119 (dk_at dksX1_doorsOf_1 14 rfl rfl)
theorem dX1_doorsOf_37 : decode cX1_doorsOf 37 = .ok (.ifCond .eq 7, 3) := dk_153 0 7 (dk_at dksX1_doorsOf_1 17 rfl rfl)
theorem dX1_doorsOf_40 : decode cX1_doorsOf 40 = .ok (.iconst 1, 1) := dk_4 (dk_at dksX1_doorsOf_1 20 rfl rfl)
theorem dX1_doorsOf_41 : decode cX1_doorsOf 41 = .ok (.goto 4, 3) := dk_167 0 4 (dk_at dksX1_doorsOf_1 21 rfl rfl)
theorem dX1_doorsOf_44 : decode cX1_doorsOf 44 = .ok (.iconst 0, 1) := dk_3 (dk_at dksX1_doorsOf_2 0 rfl rfl)
theorem dX1_doorsOf_45 : decode cX1_doorsOf 45 = .ok (.iadd, 1) := dk_96 (dk_at dksX1_doorsOf_2 1 rfl rfl)
theorem dX1_doorsOf_46 : decode cX1_doorsOf 46 = .ok (.istore_n 2, 1) := dk_61 (dk_at dksX1_doorsOf_2 2 rfl rfl)
theorem dX1_doorsOf_47 : decode cX1_doorsOf 47 = .ok (.goto (-37), 3) := dk_167 255 219 (dk_at dksX1_doorsOf_2 3 rfl rfl)
theorem dX1_doorsOf_50 : decode cX1_doorsOf 50 = .ok (.iload_n 2, 1) := dk_28 (dk_at dksX1_doorsOf_2 6 rfl rfl)
theorem dX1_doorsOf_51 : decode cX1_doorsOf 51 = .ok (.ireturn, 1) := dk_172 (dk_at dksX1_doorsOf_2 7 rfl rfl)
abbrev cX1_doubled : ByteArray := prog_4_method_42_code
def yX1_doubled : MethodName := ⟨RX1, "doubled", "()Ljava/util/BitSet;"⟩
def dkwX1_doubled_7 : List UInt8 := [167, 255, 152, 43, 176]
abbrev dktX1_doubled_7 : List UInt8 := dkwX1_doubled_7 ++ []
def dkwX1_doubled_6 : List UInt8 := [25, 6, 182, 0, 215, 153, 0, 15, 45, 42, 25, 4, 25, 6, 182, 0, 219, 182, 0, 190, 167, 255, 211]
abbrev dktX1_doubled_6 : List UInt8 := dkwX1_doubled_6 ++ dktX1_doubled_7
def dkwX1_doubled_5 : List UInt8 := [185, 0, 32, 1, 0, 153, 0, 41, 25, 5, 185, 0, 38, 1, 0, 192, 0, 52, 58, 6, 42, 25, 4]
abbrev dktX1_doubled_5 : List UInt8 := dkwX1_doubled_5 ++ dktX1_doubled_6
def dkwX1_doubled_4 : List UInt8 := [153, 0, 12, 43, 25, 4, 180, 0, 172, 182, 1, 46, 42, 180, 0, 20, 182, 0, 28, 58, 5, 25, 5]
abbrev dktX1_doubled_4 : List UInt8 := dkwX1_doubled_4 ++ dktX1_doubled_5
def dkwX1_doubled_3 : List UInt8 := [192, 0, 173, 58, 4, 44, 25, 4, 182, 1, 42, 153, 0, 82, 44, 25, 4, 4, 182, 0, 211, 182, 1, 43]
abbrev dktX1_doubled_3 : List UInt8 := dkwX1_doubled_3 ++ dktX1_doubled_4
def dkwX1_doubled_2 : List UInt8 := [180, 0, 58, 5, 112, 183, 0, 222, 182, 0, 190, 45, 182, 0, 194, 154, 0, 103, 45, 182, 0, 195]
abbrev dktX1_doubled_2 : List UInt8 := dkwX1_doubled_2 ++ dktX1_doubled_3
def dkwX1_doubled_1 : List UInt8 := [183, 1, 41, 77, 187, 0, 187, 89, 183, 0, 189, 78, 45, 187, 0, 173, 89, 42, 180, 0, 54, 42]
abbrev dktX1_doubled_1 : List UInt8 := dkwX1_doubled_1 ++ dktX1_doubled_2
def dkwX1_doubled_0 : List UInt8 := [187, 1, 36, 89, 183, 1, 38, 76, 42, 180, 0, 14, 182, 0, 156, 153, 0, 5, 43, 176, 187, 1, 39, 89]
abbrev dktX1_doubled_0 : List UInt8 := dkwX1_doubled_0 ++ dktX1_doubled_1
theorem dksX1_doubled_0 : cX1_doubled.data.toList.drop 0 = dktX1_doubled_0 := by decide +kernel
theorem dksX1_doubled_1 : cX1_doubled.data.toList.drop 24 = dktX1_doubled_1 := dk_seg dksX1_doubled_0 24 rfl rfl
theorem dksX1_doubled_2 : cX1_doubled.data.toList.drop 46 = dktX1_doubled_2 := dk_seg dksX1_doubled_1 22 rfl rfl
theorem dksX1_doubled_3 : cX1_doubled.data.toList.drop 68 = dktX1_doubled_3 := dk_seg dksX1_doubled_2 22 rfl rfl
theorem dksX1_doubled_4 : cX1_doubled.data.toList.drop 92 = dktX1_doubled_4 := dk_seg dksX1_doubled_3 24 rfl rfl
theorem dksX1_doubled_5 : cX1_doubled.data.toList.drop 115 = dktX1_doubled_5 := dk_seg dksX1_doubled_4 23 rfl rfl
theorem dksX1_doubled_6 : cX1_doubled.data.toList.drop 138 = dktX1_doubled_6 := dk_seg dksX1_doubled_5 23 rfl rfl
theorem dksX1_doubled_7 : cX1_doubled.data.toList.drop 161 = dktX1_doubled_7 := dk_seg dksX1_doubled_6 23 rfl rfl
theorem dX1_doubled_0 : decode cX1_doubled 0 = .ok (.new 292, 3) := dk_187 1 36 (dk_at dksX1_doubled_0 0 rfl rfl)
theorem dX1_doubled_3 : decode cX1_doubled 3 = .ok (.dup, 1) := dk_89 (dk_at dksX1_doubled_0 3 rfl rfl)
theorem dX1_doubled_4 : decode cX1_doubled 4 = .ok (.invokespecial 294, 3) := dk_183 1 38 (dk_at dksX1_doubled_0 4 rfl rfl)
theorem dX1_doubled_7 : decode cX1_doubled 7 = .ok (.astore_n 1, 1) := dk_76 (dk_at dksX1_doubled_0 7 rfl rfl)
theorem dX1_doubled_8 : decode cX1_doubled 8 = .ok (.aload_n 0, 1) := dk_42 (dk_at dksX1_doubled_0 8 rfl rfl)
theorem dX1_doubled_9 : decode cX1_doubled 9 = .ok (.getfield 14, 3) := dk_180 0 14 (dk_at dksX1_doubled_0 9 rfl rfl)
theorem dX1_doubled_12 : decode cX1_doubled 12 = .ok (.invokevirtual 156, 3) := dk_182 0 156 (dk_at dksX1_doubled_0 12 rfl rfl)
theorem dX1_doubled_15 : decode cX1_doubled 15 = .ok (.ifCond .eq 5, 3) := dk_153 0 5 (dk_at dksX1_doubled_0 15 rfl rfl)
theorem dX1_doubled_18 : decode cX1_doubled 18 = .ok (.aload_n 1, 1) := dk_43 (dk_at dksX1_doubled_0 18 rfl rfl)
theorem dX1_doubled_19 : decode cX1_doubled 19 = .ok (.areturn, 1) := dk_176 (dk_at dksX1_doubled_0 19 rfl rfl)
theorem dX1_doubled_20 : decode cX1_doubled 20 = .ok (.new 295, 3) := dk_187 1 39 (dk_at dksX1_doubled_0 20 rfl rfl)
theorem dX1_doubled_23 : decode cX1_doubled 23 = .ok (.dup, 1) := dk_89 (dk_at dksX1_doubled_0 23 rfl rfl)
theorem dX1_doubled_24 : decode cX1_doubled 24 = .ok (.invokespecial 297, 3) := dk_183 1 41 (dk_at dksX1_doubled_1 0 rfl rfl)
theorem dX1_doubled_27 : decode cX1_doubled 27 = .ok (.astore_n 2, 1) := dk_77 (dk_at dksX1_doubled_1 3 rfl rfl)
theorem dX1_doubled_28 : decode cX1_doubled 28 = .ok (.new 187, 3) := dk_187 0 187 (dk_at dksX1_doubled_1 4 rfl rfl)
theorem dX1_doubled_31 : decode cX1_doubled 31 = .ok (.dup, 1) := dk_89 (dk_at dksX1_doubled_1 7 rfl rfl)
theorem dX1_doubled_32 : decode cX1_doubled 32 = .ok (.invokespecial 189, 3) := dk_183 0 189 (dk_at dksX1_doubled_1 8 rfl rfl)
theorem dX1_doubled_35 : decode cX1_doubled 35 = .ok (.astore_n 3, 1) := dk_78 (dk_at dksX1_doubled_1 11 rfl rfl)
theorem dX1_doubled_36 : decode cX1_doubled 36 = .ok (.aload_n 3, 1) := dk_45 (dk_at dksX1_doubled_1 12 rfl rfl)
theorem dX1_doubled_37 : decode cX1_doubled 37 = .ok (.new 173, 3) := dk_187 0 173 (dk_at dksX1_doubled_1 13 rfl rfl)
theorem dX1_doubled_40 : decode cX1_doubled 40 = .ok (.dup, 1) := dk_89 (dk_at dksX1_doubled_1 16 rfl rfl)
theorem dX1_doubled_41 : decode cX1_doubled 41 = .ok (.aload_n 0, 1) := dk_42 (dk_at dksX1_doubled_1 17 rfl rfl)
theorem dX1_doubled_42 : decode cX1_doubled 42 = .ok (.getfield 54, 3) := dk_180 0 54 (dk_at dksX1_doubled_1 18 rfl rfl)
theorem dX1_doubled_45 : decode cX1_doubled 45 = .ok (.aload_n 0, 1) := dk_42 (dk_at dksX1_doubled_1 21 rfl rfl)
theorem dX1_doubled_46 : decode cX1_doubled 46 = .ok (.getfield 58, 3) := dk_180 0 58 (dk_at dksX1_doubled_2 0 rfl rfl)
theorem dX1_doubled_49 : decode cX1_doubled 49 = .ok (.iconst 2, 1) := dk_5 (dk_at dksX1_doubled_2 3 rfl rfl)
theorem dX1_doubled_50 : decode cX1_doubled 50 = .ok (.irem, 1) := dk_112 (dk_at dksX1_doubled_2 4 rfl rfl)
theorem dX1_doubled_51 : decode cX1_doubled 51 = .ok (.invokespecial 222, 3) := dk_183 0 222 (dk_at dksX1_doubled_2 5 rfl rfl)
theorem dX1_doubled_54 : decode cX1_doubled 54 = .ok (.invokevirtual 190, 3) := dk_182 0 190 (dk_at dksX1_doubled_2 8 rfl rfl)
theorem dX1_doubled_57 : decode cX1_doubled 57 = .ok (.aload_n 3, 1) := dk_45 (dk_at dksX1_doubled_2 11 rfl rfl)
theorem dX1_doubled_58 : decode cX1_doubled 58 = .ok (.invokevirtual 194, 3) := dk_182 0 194 (dk_at dksX1_doubled_2 12 rfl rfl)
theorem dX1_doubled_61 : decode cX1_doubled 61 = .ok (.ifCond .ne 103, 3) := dk_154 0 103 (dk_at dksX1_doubled_2 15 rfl rfl)
theorem dX1_doubled_64 : decode cX1_doubled 64 = .ok (.aload_n 3, 1) := dk_45 (dk_at dksX1_doubled_2 18 rfl rfl)
theorem dX1_doubled_65 : decode cX1_doubled 65 = .ok (.invokevirtual 195, 3) := dk_182 0 195 (dk_at dksX1_doubled_2 19 rfl rfl)
theorem dX1_doubled_68 : decode cX1_doubled 68 = .ok (.checkcast 173, 3) := dk_192 0 173 (dk_at dksX1_doubled_3 0 rfl rfl)
theorem dX1_doubled_71 : decode cX1_doubled 71 = .ok (.astore 4, 2) := dk_58 4 (dk_at dksX1_doubled_3 3 rfl rfl)
theorem dX1_doubled_73 : decode cX1_doubled 73 = .ok (.aload_n 2, 1) := dk_44 (dk_at dksX1_doubled_3 5 rfl rfl)
theorem dX1_doubled_74 : decode cX1_doubled 74 = .ok (.aload 4, 2) := dk_25 4 (dk_at dksX1_doubled_3 6 rfl rfl)
theorem dX1_doubled_76 : decode cX1_doubled 76 = .ok (.invokevirtual 298, 3) := dk_182 1 42 (dk_at dksX1_doubled_3 8 rfl rfl)
theorem dX1_doubled_79 : decode cX1_doubled 79 = .ok (.ifCond .eq 82, 3) := dk_153 0 82 (dk_at dksX1_doubled_3 11 rfl rfl)
theorem dX1_doubled_82 : decode cX1_doubled 82 = .ok (.aload_n 2, 1) := dk_44 (dk_at dksX1_doubled_3 14 rfl rfl)
theorem dX1_doubled_83 : decode cX1_doubled 83 = .ok (.aload 4, 2) := dk_25 4 (dk_at dksX1_doubled_3 15 rfl rfl)
theorem dX1_doubled_85 : decode cX1_doubled 85 = .ok (.iconst 1, 1) := dk_4 (dk_at dksX1_doubled_3 17 rfl rfl)
theorem dX1_doubled_86 : decode cX1_doubled 86 = .ok (.invokevirtual 211, 3) := dk_182 0 211 (dk_at dksX1_doubled_3 18 rfl rfl)
theorem dX1_doubled_89 : decode cX1_doubled 89 = .ok (.invokevirtual 299, 3) := dk_182 1 43 (dk_at dksX1_doubled_3 21 rfl rfl)
theorem dX1_doubled_92 : decode cX1_doubled 92 = .ok (.ifCond .eq 12, 3) := dk_153 0 12 (dk_at dksX1_doubled_4 0 rfl rfl)
theorem dX1_doubled_95 : decode cX1_doubled 95 = .ok (.aload_n 1, 1) := dk_43 (dk_at dksX1_doubled_4 3 rfl rfl)
theorem dX1_doubled_96 : decode cX1_doubled 96 = .ok (.aload 4, 2) := dk_25 4 (dk_at dksX1_doubled_4 4 rfl rfl)
theorem dX1_doubled_98 : decode cX1_doubled 98 = .ok (.getfield 172, 3) := dk_180 0 172 (dk_at dksX1_doubled_4 6 rfl rfl)
theorem dX1_doubled_101 : decode cX1_doubled 101 = .ok (.invokevirtual 302, 3) := dk_182 1 46 (dk_at dksX1_doubled_4 9 rfl rfl)
theorem dX1_doubled_104 : decode cX1_doubled 104 = .ok (.aload_n 0, 1) := dk_42 (dk_at dksX1_doubled_4 12 rfl rfl)
theorem dX1_doubled_105 : decode cX1_doubled 105 = .ok (.getfield 20, 3) := dk_180 0 20 (dk_at dksX1_doubled_4 13 rfl rfl)
theorem dX1_doubled_108 : decode cX1_doubled 108 = .ok (.invokevirtual 28, 3) := dk_182 0 28 (dk_at dksX1_doubled_4 16 rfl rfl)
theorem dX1_doubled_111 : decode cX1_doubled 111 = .ok (.astore 5, 2) := dk_58 5 (dk_at dksX1_doubled_4 19 rfl rfl)
theorem dX1_doubled_113 : decode cX1_doubled 113 = .ok (.aload 5, 2) := dk_25 5 (dk_at dksX1_doubled_4 21 rfl rfl)
theorem dX1_doubled_115 : decode cX1_doubled 115 = .ok (.invokeinterface 32 1, 5) := by decide +kernel
theorem dX1_doubled_120 : decode cX1_doubled 120 = .ok (.ifCond .eq 41, 3) := dk_153 0 41 (dk_at dksX1_doubled_5 5 rfl rfl)
theorem dX1_doubled_123 : decode cX1_doubled 123 = .ok (.aload 5, 2) := dk_25 5 (dk_at dksX1_doubled_5 8 rfl rfl)
theorem dX1_doubled_125 : decode cX1_doubled 125 = .ok (.invokeinterface 38 1, 5) := by decide +kernel
theorem dX1_doubled_130 : decode cX1_doubled 130 = .ok (.checkcast 52, 3) := dk_192 0 52 (dk_at dksX1_doubled_5 15 rfl rfl)
theorem dX1_doubled_133 : decode cX1_doubled 133 = .ok (.astore 6, 2) := dk_58 6 (dk_at dksX1_doubled_5 18 rfl rfl)
theorem dX1_doubled_135 : decode cX1_doubled 135 = .ok (.aload_n 0, 1) := dk_42 (dk_at dksX1_doubled_5 20 rfl rfl)
theorem dX1_doubled_136 : decode cX1_doubled 136 = .ok (.aload 4, 2) := dk_25 4 (dk_at dksX1_doubled_5 21 rfl rfl)
theorem dX1_doubled_138 : decode cX1_doubled 138 = .ok (.aload 6, 2) := dk_25 6 (dk_at dksX1_doubled_6 0 rfl rfl)
theorem dX1_doubled_140 : decode cX1_doubled 140 = .ok (.invokevirtual 215, 3) := dk_182 0 215 (dk_at dksX1_doubled_6 2 rfl rfl)
theorem dX1_doubled_143 : decode cX1_doubled 143 = .ok (.ifCond .eq 15, 3) := dk_153 0 15 (dk_at dksX1_doubled_6 5 rfl rfl)
theorem dX1_doubled_146 : decode cX1_doubled 146 = .ok (.aload_n 3, 1) := dk_45 (dk_at dksX1_doubled_6 8 rfl rfl)
theorem dX1_doubled_147 : decode cX1_doubled 147 = .ok (.aload_n 0, 1) := dk_42 (dk_at dksX1_doubled_6 9 rfl rfl)
theorem dX1_doubled_148 : decode cX1_doubled 148 = .ok (.aload 4, 2) := dk_25 4 (dk_at dksX1_doubled_6 10 rfl rfl)
theorem dX1_doubled_150 : decode cX1_doubled 150 = .ok (.aload 6, 2) := dk_25 6 (dk_at dksX1_doubled_6 12 rfl rfl)
theorem dX1_doubled_152 : decode cX1_doubled 152 = .ok (.invokevirtual 219, 3) := dk_182 0 219 (dk_at dksX1_doubled_6 14 rfl rfl)
theorem dX1_doubled_155 : decode cX1_doubled 155 = .ok (.invokevirtual 190, 3) := dk_182 0 190 (dk_at dksX1_doubled_6 17 rfl rfl)
theorem dX1_doubled_158 : decode cX1_doubled 158 = .ok (.goto (-45), 3) := dk_167 255 211 (dk_at dksX1_doubled_6 20 rfl rfl)
theorem dX1_doubled_161 : decode cX1_doubled 161 = .ok (.goto (-104), 3) := dk_167 255 152 (dk_at dksX1_doubled_7 0 rfl rfl)
theorem dX1_doubled_164 : decode cX1_doubled 164 = .ok (.aload_n 1, 1) := dk_43 (dk_at dksX1_doubled_7 3 rfl rfl)
theorem dX1_doubled_165 : decode cX1_doubled 165 = .ok (.areturn, 1) := dk_176 (dk_at dksX1_doubled_7 4 rfl rfl)
abbrev cX1_goesOn : ByteArray := prog_4_method_23_code
def yX1_goesOn : MethodName := ⟨RX1, "goesOn", "(LParityMaze$Spot;LParityMaze$Door;)Z"⟩
def dkwX1_goesOn_2 : List UInt8 := [167, 0, 4, 3, 172]
abbrev dktX1_goesOn_2 : List UInt8 := dkwX1_goesOn_2 ++ []
def dkwX1_goesOn_1 : List UInt8 := [180, 0, 14, 43, 180, 0, 172, 182, 0, 90, 192, 0, 42, 182, 0, 122, 96, 182, 0, 131, 153, 0, 7, 4]
abbrev dktX1_goesOn_1 : List UInt8 := dkwX1_goesOn_1 ++ dktX1_goesOn_2
def dkwX1_goesOn_0 : List UInt8 := [44, 43, 180, 0, 172, 182, 0, 119, 153, 0, 43, 44, 180, 0, 124, 154, 0, 36, 44, 43, 180, 0, 177, 42]
abbrev dktX1_goesOn_0 : List UInt8 := dkwX1_goesOn_0 ++ dktX1_goesOn_1
theorem dksX1_goesOn_0 : cX1_goesOn.data.toList.drop 0 = dktX1_goesOn_0 := by decide +kernel
theorem dksX1_goesOn_1 : cX1_goesOn.data.toList.drop 24 = dktX1_goesOn_1 := dk_seg dksX1_goesOn_0 24 rfl rfl
theorem dksX1_goesOn_2 : cX1_goesOn.data.toList.drop 48 = dktX1_goesOn_2 := dk_seg dksX1_goesOn_1 24 rfl rfl
theorem dX1_goesOn_0 : decode cX1_goesOn 0 = .ok (.aload_n 2, 1) := dk_44 (dk_at dksX1_goesOn_0 0 rfl rfl)
theorem dX1_goesOn_1 : decode cX1_goesOn 1 = .ok (.aload_n 1, 1) := dk_43 (dk_at dksX1_goesOn_0 1 rfl rfl)
theorem dX1_goesOn_2 : decode cX1_goesOn 2 = .ok (.getfield 172, 3) := dk_180 0 172 (dk_at dksX1_goesOn_0 2 rfl rfl)
theorem dX1_goesOn_5 : decode cX1_goesOn 5 = .ok (.invokevirtual 119, 3) := dk_182 0 119 (dk_at dksX1_goesOn_0 5 rfl rfl)
theorem dX1_goesOn_8 : decode cX1_goesOn 8 = .ok (.ifCond .eq 43, 3) := dk_153 0 43 (dk_at dksX1_goesOn_0 8 rfl rfl)
theorem dX1_goesOn_11 : decode cX1_goesOn 11 = .ok (.aload_n 2, 1) := dk_44 (dk_at dksX1_goesOn_0 11 rfl rfl)
theorem dX1_goesOn_12 : decode cX1_goesOn 12 = .ok (.getfield 124, 3) := dk_180 0 124 (dk_at dksX1_goesOn_0 12 rfl rfl)
theorem dX1_goesOn_15 : decode cX1_goesOn 15 = .ok (.ifCond .ne 36, 3) := dk_154 0 36 (dk_at dksX1_goesOn_0 15 rfl rfl)
theorem dX1_goesOn_18 : decode cX1_goesOn 18 = .ok (.aload_n 2, 1) := dk_44 (dk_at dksX1_goesOn_0 18 rfl rfl)
theorem dX1_goesOn_19 : decode cX1_goesOn 19 = .ok (.aload_n 1, 1) := dk_43 (dk_at dksX1_goesOn_0 19 rfl rfl)
theorem dX1_goesOn_20 : decode cX1_goesOn 20 = .ok (.getfield 177, 3) := dk_180 0 177 (dk_at dksX1_goesOn_0 20 rfl rfl)
theorem dX1_goesOn_23 : decode cX1_goesOn 23 = .ok (.aload_n 0, 1) := dk_42 (dk_at dksX1_goesOn_0 23 rfl rfl)
theorem dX1_goesOn_24 : decode cX1_goesOn 24 = .ok (.getfield 14, 3) := dk_180 0 14 (dk_at dksX1_goesOn_1 0 rfl rfl)
theorem dX1_goesOn_27 : decode cX1_goesOn 27 = .ok (.aload_n 1, 1) := dk_43 (dk_at dksX1_goesOn_1 3 rfl rfl)
theorem dX1_goesOn_28 : decode cX1_goesOn 28 = .ok (.getfield 172, 3) := dk_180 0 172 (dk_at dksX1_goesOn_1 4 rfl rfl)
theorem dX1_goesOn_31 : decode cX1_goesOn 31 = .ok (.invokevirtual 90, 3) := dk_182 0 90 (dk_at dksX1_goesOn_1 7 rfl rfl)
theorem dX1_goesOn_34 : decode cX1_goesOn 34 = .ok (.checkcast 42, 3) := dk_192 0 42 (dk_at dksX1_goesOn_1 10 rfl rfl)
theorem dX1_goesOn_37 : decode cX1_goesOn 37 = .ok (.invokevirtual 122, 3) := dk_182 0 122 (dk_at dksX1_goesOn_1 13 rfl rfl)
theorem dX1_goesOn_40 : decode cX1_goesOn 40 = .ok (.iadd, 1) := dk_96 (dk_at dksX1_goesOn_1 16 rfl rfl)
theorem dX1_goesOn_41 : decode cX1_goesOn 41 = .ok (.invokevirtual 131, 3) := dk_182 0 131 (dk_at dksX1_goesOn_1 17 rfl rfl)
theorem dX1_goesOn_44 : decode cX1_goesOn 44 = .ok (.ifCond .eq 7, 3) := dk_153 0 7 (dk_at dksX1_goesOn_1 20 rfl rfl)
theorem dX1_goesOn_47 : decode cX1_goesOn 47 = .ok (.iconst 1, 1) := dk_4 (dk_at dksX1_goesOn_1 23 rfl rfl)
theorem dX1_goesOn_48 : decode cX1_goesOn 48 = .ok (.goto 4, 3) := dk_167 0 4 (dk_at dksX1_goesOn_2 0 rfl rfl)
theorem dX1_goesOn_51 : decode cX1_goesOn 51 = .ok (.iconst 0, 1) := dk_3 (dk_at dksX1_goesOn_2 3 rfl rfl)
theorem dX1_goesOn_52 : decode cX1_goesOn 52 = .ok (.ireturn, 1) := dk_172 (dk_at dksX1_goesOn_2 4 rfl rfl)
abbrev cX1_behind : ByteArray := prog_4_method_24_code
def yX1_behind : MethodName := ⟨RX1, "behind", "(LParityMaze$Spot;LParityMaze$Door;)LParityMaze$Spot;"⟩
def dkwX1_behind_0 : List UInt8 := [43, 44, 42, 180, 0, 14, 43, 180, 0, 172, 182, 0, 90, 192, 0, 42, 182, 0, 122, 182, 0, 180, 176]
abbrev dktX1_behind_0 : List UInt8 := dkwX1_behind_0 ++ []
theorem dksX1_behind_0 : cX1_behind.data.toList.drop 0 = dktX1_behind_0 := by decide +kernel
theorem dX1_behind_0 : decode cX1_behind 0 = .ok (.aload_n 1, 1) := dk_43 (dk_at dksX1_behind_0 0 rfl rfl)
theorem dX1_behind_1 : decode cX1_behind 1 = .ok (.aload_n 2, 1) := dk_44 (dk_at dksX1_behind_0 1 rfl rfl)
theorem dX1_behind_2 : decode cX1_behind 2 = .ok (.aload_n 0, 1) := dk_42 (dk_at dksX1_behind_0 2 rfl rfl)
theorem dX1_behind_3 : decode cX1_behind 3 = .ok (.getfield 14, 3) := dk_180 0 14 (dk_at dksX1_behind_0 3 rfl rfl)
theorem dX1_behind_6 : decode cX1_behind 6 = .ok (.aload_n 1, 1) := dk_43 (dk_at dksX1_behind_0 6 rfl rfl)
theorem dX1_behind_7 : decode cX1_behind 7 = .ok (.getfield 172, 3) := dk_180 0 172 (dk_at dksX1_behind_0 7 rfl rfl)
theorem dX1_behind_10 : decode cX1_behind 10 = .ok (.invokevirtual 90, 3) := dk_182 0 90 (dk_at dksX1_behind_0 10 rfl rfl)
theorem dX1_behind_13 : decode cX1_behind 13 = .ok (.checkcast 42, 3) := dk_192 0 42 (dk_at dksX1_behind_0 13 rfl rfl)
theorem dX1_behind_16 : decode cX1_behind 16 = .ok (.invokevirtual 122, 3) := dk_182 0 122 (dk_at dksX1_behind_0 16 rfl rfl)
theorem dX1_behind_19 : decode cX1_behind 19 = .ok (.invokevirtual 180, 3) := dk_182 0 180 (dk_at dksX1_behind_0 19 rfl rfl)
theorem dX1_behind_22 : decode cX1_behind 22 = .ok (.areturn, 1) := dk_176 (dk_at dksX1_behind_0 22 rfl rfl)
abbrev cX1_way : ByteArray := prog_4_method_27_code
def yX1_way : MethodName := ⟨RX1, "way", "(III)I"⟩
def dkwX1_way_0 : List UInt8 := [42, 187, 0, 173, 89, 27, 29, 183, 0, 222, 182, 0, 234, 28, 184, 0, 238, 172]
abbrev dktX1_way_0 : List UInt8 := dkwX1_way_0 ++ []
theorem dksX1_way_0 : cX1_way.data.toList.drop 0 = dktX1_way_0 := by decide +kernel
theorem dX1_way_0 : decode cX1_way 0 = .ok (.aload_n 0, 1) := dk_42 (dk_at dksX1_way_0 0 rfl rfl)
theorem dX1_way_1 : decode cX1_way 1 = .ok (.new 173, 3) := dk_187 0 173 (dk_at dksX1_way_0 1 rfl rfl)
theorem dX1_way_4 : decode cX1_way 4 = .ok (.dup, 1) := dk_89 (dk_at dksX1_way_0 4 rfl rfl)
theorem dX1_way_5 : decode cX1_way 5 = .ok (.iload_n 1, 1) := dk_27 (dk_at dksX1_way_0 5 rfl rfl)
theorem dX1_way_6 : decode cX1_way 6 = .ok (.iload_n 3, 1) := dk_29 (dk_at dksX1_way_0 6 rfl rfl)
theorem dX1_way_7 : decode cX1_way 7 = .ok (.invokespecial 222, 3) := dk_183 0 222 (dk_at dksX1_way_0 7 rfl rfl)
theorem dX1_way_10 : decode cX1_way 10 = .ok (.invokevirtual 234, 3) := dk_182 0 234 (dk_at dksX1_way_0 10 rfl rfl)
theorem dX1_way_13 : decode cX1_way 13 = .ok (.iload_n 2, 1) := dk_28 (dk_at dksX1_way_0 13 rfl rfl)
theorem dX1_way_14 : decode cX1_way 14 = .ok (.invokestatic 238, 3) := dk_184 0 238 (dk_at dksX1_way_0 14 rfl rfl)
theorem dX1_way_17 : decode cX1_way 17 = .ok (.ireturn, 1) := dk_172 (dk_at dksX1_way_0 17 rfl rfl)
abbrev cX1_near : ByteArray := prog_4_method_25_code
def yX1_near : MethodName := ⟨RX1, "near", "(LParityMaze$Spot;)Ljava/util/LinkedHashMap;"⟩
def dkwX1_near_9 : List UInt8 := [58, 4, 25, 7, 58, 5, 132, 6, 1, 167, 255, 85, 44, 176]
abbrev dktX1_near_9 : List UInt8 := dkwX1_near_9 ++ []
def dkwX1_near_8 : List UInt8 := [25, 7, 25, 10, 182, 0, 219, 182, 0, 190, 167, 255, 184, 167, 255, 120, 45, 58, 7, 25, 4, 78, 25, 5]
abbrev dktX1_near_8 : List UInt8 := dkwX1_near_8 ++ dktX1_near_9
def dkwX1_near_7 : List UInt8 := [180, 0, 172, 182, 0, 90, 192, 0, 42, 182, 0, 111, 153, 0, 8, 25, 4, 167, 0, 5, 25, 5, 42]
abbrev dktX1_near_7 : List UInt8 := dkwX1_near_7 ++ dktX1_near_8
def dkwX1_near_6 : List UInt8 := [192, 0, 52, 58, 10, 42, 25, 7, 25, 10, 182, 0, 215, 153, 0, 42, 42, 180, 0, 14, 25, 7]
abbrev dktX1_near_6 : List UInt8 := dkwX1_near_6 ++ dktX1_near_7
def dkwX1_near_5 : List UInt8 := [182, 0, 28, 58, 9, 25, 9, 185, 0, 32, 1, 0, 153, 0, 68, 25, 9, 185, 0, 38, 1, 0]
abbrev dktX1_near_5 : List UInt8 := dkwX1_near_5 ++ dktX1_near_6
def dkwX1_near_4 : List UInt8 := [182, 0, 207, 192, 0, 202, 58, 8, 25, 4, 25, 7, 4, 182, 0, 211, 182, 0, 190, 42, 180, 0, 20]
abbrev dktX1_near_4 : List UInt8 := dkwX1_near_4 ++ dktX1_near_5
def dkwX1_near_3 : List UInt8 := [192, 0, 173, 58, 7, 44, 25, 7, 182, 0, 198, 154, 0, 114, 44, 25, 7, 21, 6, 184, 0, 201]
abbrev dktX1_near_3 : List UInt8 := dkwX1_near_3 ++ dktX1_near_4
def dkwX1_near_2 : List UInt8 := [153, 0, 11, 25, 4, 182, 0, 194, 154, 0, 162, 45, 182, 0, 194, 154, 0, 135, 45, 182, 0, 195]
abbrev dktX1_near_2 : List UInt8 := dkwX1_near_2 ++ dktX1_near_3
def dkwX1_near_1 : List UInt8 := [58, 4, 187, 0, 187, 89, 183, 0, 189, 58, 5, 45, 43, 182, 0, 190, 3, 54, 6, 45, 182, 0, 194]
abbrev dktX1_near_1 : List UInt8 := dkwX1_near_1 ++ dktX1_near_2
def dkwX1_near_0 : List UInt8 := [187, 0, 184, 89, 183, 0, 186, 77, 187, 0, 187, 89, 183, 0, 189, 78, 187, 0, 187, 89, 183, 0, 189]
abbrev dktX1_near_0 : List UInt8 := dkwX1_near_0 ++ dktX1_near_1
theorem dksX1_near_0 : cX1_near.data.toList.drop 0 = dktX1_near_0 := by decide +kernel
theorem dksX1_near_1 : cX1_near.data.toList.drop 23 = dktX1_near_1 := dk_seg dksX1_near_0 23 rfl rfl
theorem dksX1_near_2 : cX1_near.data.toList.drop 46 = dktX1_near_2 := dk_seg dksX1_near_1 23 rfl rfl
theorem dksX1_near_3 : cX1_near.data.toList.drop 68 = dktX1_near_3 := dk_seg dksX1_near_2 22 rfl rfl
theorem dksX1_near_4 : cX1_near.data.toList.drop 90 = dktX1_near_4 := dk_seg dksX1_near_3 22 rfl rfl
theorem dksX1_near_5 : cX1_near.data.toList.drop 113 = dktX1_near_5 := dk_seg dksX1_near_4 23 rfl rfl
theorem dksX1_near_6 : cX1_near.data.toList.drop 135 = dktX1_near_6 := dk_seg dksX1_near_5 22 rfl rfl
theorem dksX1_near_7 : cX1_near.data.toList.drop 157 = dktX1_near_7 := dk_seg dksX1_near_6 22 rfl rfl
theorem dksX1_near_8 : cX1_near.data.toList.drop 180 = dktX1_near_8 := dk_seg dksX1_near_7 23 rfl rfl
theorem dksX1_near_9 : cX1_near.data.toList.drop 204 = dktX1_near_9 := dk_seg dksX1_near_8 24 rfl rfl
theorem dX1_near_0 : decode cX1_near 0 = .ok (.new 184, 3) := dk_187 0 184 (dk_at dksX1_near_0 0 rfl rfl)
theorem dX1_near_3 : decode cX1_near 3 = .ok (.dup, 1) := dk_89 (dk_at dksX1_near_0 3 rfl rfl)
theorem dX1_near_4 : decode cX1_near 4 = .ok (.invokespecial 186, 3) := dk_183 0 186 (dk_at dksX1_near_0 4 rfl rfl)
theorem dX1_near_7 : decode cX1_near 7 = .ok (.astore_n 2, 1) := dk_77 (dk_at dksX1_near_0 7 rfl rfl)
theorem dX1_near_8 : decode cX1_near 8 = .ok (.new 187, 3) := dk_187 0 187 (dk_at dksX1_near_0 8 rfl rfl)
theorem dX1_near_11 : decode cX1_near 11 = .ok (.dup, 1) := dk_89 (dk_at dksX1_near_0 11 rfl rfl)
theorem dX1_near_12 : decode cX1_near 12 = .ok (.invokespecial 189, 3) := dk_183 0 189 (dk_at dksX1_near_0 12 rfl rfl)
theorem dX1_near_15 : decode cX1_near 15 = .ok (.astore_n 3, 1) := dk_78 (dk_at dksX1_near_0 15 rfl rfl)
theorem dX1_near_16 : decode cX1_near 16 = .ok (.new 187, 3) := dk_187 0 187 (dk_at dksX1_near_0 16 rfl rfl)
theorem dX1_near_19 : decode cX1_near 19 = .ok (.dup, 1) := dk_89 (dk_at dksX1_near_0 19 rfl rfl)
theorem dX1_near_20 : decode cX1_near 20 = .ok (.invokespecial 189, 3) := dk_183 0 189 (dk_at dksX1_near_0 20 rfl rfl)
theorem dX1_near_23 : decode cX1_near 23 = .ok (.astore 4, 2) := dk_58 4 (dk_at dksX1_near_1 0 rfl rfl)
theorem dX1_near_25 : decode cX1_near 25 = .ok (.new 187, 3) := dk_187 0 187 (dk_at dksX1_near_1 2 rfl rfl)
theorem dX1_near_28 : decode cX1_near 28 = .ok (.dup, 1) := dk_89 (dk_at dksX1_near_1 5 rfl rfl)
theorem dX1_near_29 : decode cX1_near 29 = .ok (.invokespecial 189, 3) := dk_183 0 189 (dk_at dksX1_near_1 6 rfl rfl)
theorem dX1_near_32 : decode cX1_near 32 = .ok (.astore 5, 2) := dk_58 5 (dk_at dksX1_near_1 9 rfl rfl)
theorem dX1_near_34 : decode cX1_near 34 = .ok (.aload_n 3, 1) := dk_45 (dk_at dksX1_near_1 11 rfl rfl)
theorem dX1_near_35 : decode cX1_near 35 = .ok (.aload_n 1, 1) := dk_43 (dk_at dksX1_near_1 12 rfl rfl)
theorem dX1_near_36 : decode cX1_near 36 = .ok (.invokevirtual 190, 3) := dk_182 0 190 (dk_at dksX1_near_1 13 rfl rfl)
theorem dX1_near_39 : decode cX1_near 39 = .ok (.iconst 0, 1) := dk_3 (dk_at dksX1_near_1 16 rfl rfl)
theorem dX1_near_40 : decode cX1_near 40 = .ok (.istore 6, 2) := dk_54 6 (dk_at dksX1_near_1 17 rfl rfl)
theorem dX1_near_42 : decode cX1_near 42 = .ok (.aload_n 3, 1) := dk_45 (dk_at dksX1_near_1 19 rfl rfl)
theorem dX1_near_43 : decode cX1_near 43 = .ok (.invokevirtual 194, 3) := dk_182 0 194 (dk_at dksX1_near_1 20 rfl rfl)
theorem dX1_near_46 : decode cX1_near 46 = .ok (.ifCond .eq 11, 3) := dk_153 0 11 (dk_at dksX1_near_2 0 rfl rfl)
theorem dX1_near_49 : decode cX1_near 49 = .ok (.aload 4, 2) := dk_25 4 (dk_at dksX1_near_2 3 rfl rfl)
theorem dX1_near_51 : decode cX1_near 51 = .ok (.invokevirtual 194, 3) := dk_182 0 194 (dk_at dksX1_near_2 5 rfl rfl)
theorem dX1_near_54 : decode cX1_near 54 = .ok (.ifCond .ne 162, 3) := dk_154 0 162 (dk_at dksX1_near_2 8 rfl rfl)
theorem dX1_near_57 : decode cX1_near 57 = .ok (.aload_n 3, 1) := dk_45 (dk_at dksX1_near_2 11 rfl rfl)
theorem dX1_near_58 : decode cX1_near 58 = .ok (.invokevirtual 194, 3) := dk_182 0 194 (dk_at dksX1_near_2 12 rfl rfl)
theorem dX1_near_61 : decode cX1_near 61 = .ok (.ifCond .ne 135, 3) := dk_154 0 135 (dk_at dksX1_near_2 15 rfl rfl)
theorem dX1_near_64 : decode cX1_near 64 = .ok (.aload_n 3, 1) := dk_45 (dk_at dksX1_near_2 18 rfl rfl)
theorem dX1_near_65 : decode cX1_near 65 = .ok (.invokevirtual 195, 3) := dk_182 0 195 (dk_at dksX1_near_2 19 rfl rfl)
theorem dX1_near_68 : decode cX1_near 68 = .ok (.checkcast 173, 3) := dk_192 0 173 (dk_at dksX1_near_3 0 rfl rfl)
theorem dX1_near_71 : decode cX1_near 71 = .ok (.astore 7, 2) := dk_58 7 (dk_at dksX1_near_3 3 rfl rfl)
theorem dX1_near_73 : decode cX1_near 73 = .ok (.aload_n 2, 1) := dk_44 (dk_at dksX1_near_3 5 rfl rfl)
theorem dX1_near_74 : decode cX1_near 74 = .ok (.aload 7, 2) := dk_25 7 (dk_at dksX1_near_3 6 rfl rfl)
theorem dX1_near_76 : decode cX1_near 76 = .ok (.invokevirtual 198, 3) := dk_182 0 198 (dk_at dksX1_near_3 8 rfl rfl)
theorem dX1_near_79 : decode cX1_near 79 = .ok (.ifCond .ne 114, 3) := dk_154 0 114 (dk_at dksX1_near_3 11 rfl rfl)
theorem dX1_near_82 : decode cX1_near 82 = .ok (.aload_n 2, 1) := dk_44 (dk_at dksX1_near_3 14 rfl rfl)
theorem dX1_near_83 : decode cX1_near 83 = .ok (.aload 7, 2) := dk_25 7 (dk_at dksX1_near_3 15 rfl rfl)
theorem dX1_near_85 : decode cX1_near 85 = .ok (.iload 6, 2) := dk_21 6 (dk_at dksX1_near_3 17 rfl rfl)
theorem dX1_near_87 : decode cX1_near 87 = .ok (.invokestatic 201, 3) := dk_184 0 201 (dk_at dksX1_near_3 19 rfl rfl)
theorem dX1_near_90 : decode cX1_near 90 = .ok (.invokevirtual 207, 3) := dk_182 0 207 (dk_at dksX1_near_4 0 rfl rfl)
theorem dX1_near_93 : decode cX1_near 93 = .ok (.checkcast 202, 3) := dk_192 0 202 (dk_at dksX1_near_4 3 rfl rfl)
theorem dX1_near_96 : decode cX1_near 96 = .ok (.astore 8, 2) := dk_58 8 (dk_at dksX1_near_4 6 rfl rfl)
theorem dX1_near_98 : decode cX1_near 98 = .ok (.aload 4, 2) := dk_25 4 (dk_at dksX1_near_4 8 rfl rfl)
theorem dX1_near_100 : decode cX1_near 100 = .ok (.aload 7, 2) := dk_25 7 (dk_at dksX1_near_4 10 rfl rfl)
theorem dX1_near_102 : decode cX1_near 102 = .ok (.iconst 1, 1) := dk_4 (dk_at dksX1_near_4 12 rfl rfl)
theorem dX1_near_103 : decode cX1_near 103 = .ok (.invokevirtual 211, 3) := dk_182 0 211 (dk_at dksX1_near_4 13 rfl rfl)
theorem dX1_near_106 : decode cX1_near 106 = .ok (.invokevirtual 190, 3) := dk_182 0 190 (dk_at dksX1_near_4 16 rfl rfl)
theorem dX1_near_109 : decode cX1_near 109 = .ok (.aload_n 0, 1) := dk_42 (dk_at dksX1_near_4 19 rfl rfl)
theorem dX1_near_110 : decode cX1_near 110 = .ok (.getfield 20, 3) := dk_180 0 20 (dk_at dksX1_near_4 20 rfl rfl)
theorem dX1_near_113 : decode cX1_near 113 = .ok (.invokevirtual 28, 3) := dk_182 0 28 (dk_at dksX1_near_5 0 rfl rfl)
theorem dX1_near_116 : decode cX1_near 116 = .ok (.astore 9, 2) := dk_58 9 (dk_at dksX1_near_5 3 rfl rfl)
theorem dX1_near_118 : decode cX1_near 118 = .ok (.aload 9, 2) := dk_25 9 (dk_at dksX1_near_5 5 rfl rfl)
theorem dX1_near_120 : decode cX1_near 120 = .ok (.invokeinterface 32 1, 5) := by decide +kernel
theorem dX1_near_125 : decode cX1_near 125 = .ok (.ifCond .eq 68, 3) := dk_153 0 68 (dk_at dksX1_near_5 12 rfl rfl)
theorem dX1_near_128 : decode cX1_near 128 = .ok (.aload 9, 2) := dk_25 9 (dk_at dksX1_near_5 15 rfl rfl)
theorem dX1_near_130 : decode cX1_near 130 = .ok (.invokeinterface 38 1, 5) := by decide +kernel
theorem dX1_near_135 : decode cX1_near 135 = .ok (.checkcast 52, 3) := dk_192 0 52 (dk_at dksX1_near_6 0 rfl rfl)
theorem dX1_near_138 : decode cX1_near 138 = .ok (.astore 10, 2) := dk_58 10 (dk_at dksX1_near_6 3 rfl rfl)
theorem dX1_near_140 : decode cX1_near 140 = .ok (.aload_n 0, 1) := dk_42 (dk_at dksX1_near_6 5 rfl rfl)
theorem dX1_near_141 : decode cX1_near 141 = .ok (.aload 7, 2) := dk_25 7 (dk_at dksX1_near_6 6 rfl rfl)
theorem dX1_near_143 : decode cX1_near 143 = .ok (.aload 10, 2) := dk_25 10 (dk_at dksX1_near_6 8 rfl rfl)
theorem dX1_near_145 : decode cX1_near 145 = .ok (.invokevirtual 215, 3) := dk_182 0 215 (dk_at dksX1_near_6 10 rfl rfl)
theorem dX1_near_148 : decode cX1_near 148 = .ok (.ifCond .eq 42, 3) := dk_153 0 42 (dk_at dksX1_near_6 13 rfl rfl)
theorem dX1_near_151 : decode cX1_near 151 = .ok (.aload_n 0, 1) := dk_42 (dk_at dksX1_near_6 16 rfl rfl)
theorem dX1_near_152 : decode cX1_near 152 = .ok (.getfield 14, 3) := dk_180 0 14 (dk_at dksX1_near_6 17 rfl rfl)
theorem dX1_near_155 : decode cX1_near 155 = .ok (.aload 7, 2) := dk_25 7 (dk_at dksX1_near_6 20 rfl rfl)
theorem dX1_near_157 : decode cX1_near 157 = .ok (.getfield 172, 3) := dk_180 0 172 (dk_at dksX1_near_7 0 rfl rfl)
theorem dX1_near_160 : decode cX1_near 160 = .ok (.invokevirtual 90, 3) := dk_182 0 90 (dk_at dksX1_near_7 3 rfl rfl)
theorem dX1_near_163 : decode cX1_near 163 = .ok (.checkcast 42, 3) := dk_192 0 42 (dk_at dksX1_near_7 6 rfl rfl)
theorem dX1_near_166 : decode cX1_near 166 = .ok (.invokevirtual 111, 3) := dk_182 0 111 (dk_at dksX1_near_7 9 rfl rfl)
theorem dX1_near_169 : decode cX1_near 169 = .ok (.ifCond .eq 8, 3) := dk_153 0 8 (dk_at dksX1_near_7 12 rfl rfl)
theorem dX1_near_172 : decode cX1_near 172 = .ok (.aload 4, 2) := dk_25 4 (dk_at dksX1_near_7 15 rfl rfl)
theorem dX1_near_174 : decode cX1_near 174 = .ok (.goto 5, 3) := dk_167 0 5 (dk_at dksX1_near_7 17 rfl rfl)
theorem dX1_near_177 : decode cX1_near 177 = .ok (.aload 5, 2) := dk_25 5 (dk_at dksX1_near_7 20 rfl rfl)
theorem dX1_near_179 : decode cX1_near 179 = .ok (.aload_n 0, 1) := dk_42 (dk_at dksX1_near_7 22 rfl rfl)
theorem dX1_near_180 : decode cX1_near 180 = .ok (.aload 7, 2) := dk_25 7 (dk_at dksX1_near_8 0 rfl rfl)
theorem dX1_near_182 : decode cX1_near 182 = .ok (.aload 10, 2) := dk_25 10 (dk_at dksX1_near_8 2 rfl rfl)
theorem dX1_near_184 : decode cX1_near 184 = .ok (.invokevirtual 219, 3) := dk_182 0 219 (dk_at dksX1_near_8 4 rfl rfl)
theorem dX1_near_187 : decode cX1_near 187 = .ok (.invokevirtual 190, 3) := dk_182 0 190 (dk_at dksX1_near_8 7 rfl rfl)
theorem dX1_near_190 : decode cX1_near 190 = .ok (.goto (-72), 3) := dk_167 255 184 (dk_at dksX1_near_8 10 rfl rfl)
theorem dX1_near_193 : decode cX1_near 193 = .ok (.goto (-136), 3) := dk_167 255 120 (dk_at dksX1_near_8 13 rfl rfl)
theorem dX1_near_196 : decode cX1_near 196 = .ok (.aload_n 3, 1) := dk_45 (dk_at dksX1_near_8 16 rfl rfl)
theorem dX1_near_197 : decode cX1_near 197 = .ok (.astore 7, 2) := dk_58 7 (dk_at dksX1_near_8 17 rfl rfl)
theorem dX1_near_199 : decode cX1_near 199 = .ok (.aload 4, 2) := dk_25 4 (dk_at dksX1_near_8 19 rfl rfl)
theorem dX1_near_201 : decode cX1_near 201 = .ok (.astore_n 3, 1) := dk_78 (dk_at dksX1_near_8 21 rfl rfl)
theorem dX1_near_202 : decode cX1_near 202 = .ok (.aload 5, 2) := dk_25 5 (dk_at dksX1_near_8 22 rfl rfl)
theorem dX1_near_204 : decode cX1_near 204 = .ok (.astore 4, 2) := dk_58 4 (dk_at dksX1_near_9 0 rfl rfl)
theorem dX1_near_206 : decode cX1_near 206 = .ok (.aload 7, 2) := dk_25 7 (dk_at dksX1_near_9 2 rfl rfl)
theorem dX1_near_208 : decode cX1_near 208 = .ok (.astore 5, 2) := dk_58 5 (dk_at dksX1_near_9 4 rfl rfl)
theorem dX1_near_210 : decode cX1_near 210 = .ok (.iinc 6 1, 3) := dk_132 6 1 (dk_at dksX1_near_9 6 rfl rfl)
theorem dX1_near_213 : decode cX1_near 213 = .ok (.goto (-171), 3) := dk_167 255 85 (dk_at dksX1_near_9 9 rfl rfl)
theorem dX1_near_216 : decode cX1_near 216 = .ok (.aload_n 2, 1) := dk_44 (dk_at dksX1_near_9 12 rfl rfl)
theorem dX1_near_217 : decode cX1_near 217 = .ok (.areturn, 1) := dk_176 (dk_at dksX1_near_9 13 rfl rfl)
abbrev cX1_fewest : ByteArray := prog_4_method_26_code
def yX1_fewest : MethodName := ⟨RX1, "fewest", "(Ljava/util/LinkedHashMap;I)I"⟩
def dkwX1_fewest_2 : List UInt8 := [132, 3, 1, 167, 255, 211, 28, 17, 39, 16, 160, 0, 9, 17, 252, 9, 167, 0, 4, 28, 172]
abbrev dktX1_fewest_2 : List UInt8 := dkwX1_fewest_2 ++ []
def dkwX1_fewest_1 : List UInt8 := [192, 0, 202, 58, 4, 25, 4, 199, 0, 7, 28, 167, 0, 12, 28, 25, 4, 182, 0, 228, 184, 0, 231, 61]
abbrev dktX1_fewest_1 : List UInt8 := dkwX1_fewest_1 ++ dktX1_fewest_2
def dkwX1_fewest_0 : List UInt8 := [17, 39, 16, 61, 3, 62, 29, 5, 162, 0, 46, 42, 187, 0, 173, 89, 27, 29, 183, 0, 222, 182, 0, 225]
abbrev dktX1_fewest_0 : List UInt8 := dkwX1_fewest_0 ++ dktX1_fewest_1
theorem dksX1_fewest_0 : cX1_fewest.data.toList.drop 0 = dktX1_fewest_0 := by decide +kernel
theorem dksX1_fewest_1 : cX1_fewest.data.toList.drop 24 = dktX1_fewest_1 := dk_seg dksX1_fewest_0 24 rfl rfl
theorem dksX1_fewest_2 : cX1_fewest.data.toList.drop 48 = dktX1_fewest_2 := dk_seg dksX1_fewest_1 24 rfl rfl
theorem dX1_fewest_0 : decode cX1_fewest 0 = .ok (.sipush 10000, 3) := dk_17 39 16 (dk_at dksX1_fewest_0 0 rfl rfl)
theorem dX1_fewest_3 : decode cX1_fewest 3 = .ok (.istore_n 2, 1) := dk_61 (dk_at dksX1_fewest_0 3 rfl rfl)
theorem dX1_fewest_4 : decode cX1_fewest 4 = .ok (.iconst 0, 1) := dk_3 (dk_at dksX1_fewest_0 4 rfl rfl)
theorem dX1_fewest_5 : decode cX1_fewest 5 = .ok (.istore_n 3, 1) := dk_62 (dk_at dksX1_fewest_0 5 rfl rfl)
theorem dX1_fewest_6 : decode cX1_fewest 6 = .ok (.iload_n 3, 1) := dk_29 (dk_at dksX1_fewest_0 6 rfl rfl)
theorem dX1_fewest_7 : decode cX1_fewest 7 = .ok (.iconst 2, 1) := dk_5 (dk_at dksX1_fewest_0 7 rfl rfl)
theorem dX1_fewest_8 : decode cX1_fewest 8 = .ok (.if_icmp .ge 46, 3) := dk_162 0 46 (dk_at dksX1_fewest_0 8 rfl rfl)
theorem dX1_fewest_11 : decode cX1_fewest 11 = .ok (.aload_n 0, 1) := dk_42 (dk_at dksX1_fewest_0 11 rfl rfl)
theorem dX1_fewest_12 : decode cX1_fewest 12 = .ok (.new 173, 3) := dk_187 0 173 (dk_at dksX1_fewest_0 12 rfl rfl)
theorem dX1_fewest_15 : decode cX1_fewest 15 = .ok (.dup, 1) := dk_89 (dk_at dksX1_fewest_0 15 rfl rfl)
theorem dX1_fewest_16 : decode cX1_fewest 16 = .ok (.iload_n 1, 1) := dk_27 (dk_at dksX1_fewest_0 16 rfl rfl)
theorem dX1_fewest_17 : decode cX1_fewest 17 = .ok (.iload_n 3, 1) := dk_29 (dk_at dksX1_fewest_0 17 rfl rfl)
theorem dX1_fewest_18 : decode cX1_fewest 18 = .ok (.invokespecial 222, 3) := dk_183 0 222 (dk_at dksX1_fewest_0 18 rfl rfl)
theorem dX1_fewest_21 : decode cX1_fewest 21 = .ok (.invokevirtual 225, 3) := dk_182 0 225 (dk_at dksX1_fewest_0 21 rfl rfl)
theorem dX1_fewest_24 : decode cX1_fewest 24 = .ok (.checkcast 202, 3) := dk_192 0 202 (dk_at dksX1_fewest_1 0 rfl rfl)
theorem dX1_fewest_27 : decode cX1_fewest 27 = .ok (.astore 4, 2) := dk_58 4 (dk_at dksX1_fewest_1 3 rfl rfl)
theorem dX1_fewest_29 : decode cX1_fewest 29 = .ok (.aload 4, 2) := dk_25 4 (dk_at dksX1_fewest_1 5 rfl rfl)
theorem dX1_fewest_31 : decode cX1_fewest 31 = .ok (.ifnonnull 7, 3) := dk_199 0 7 (dk_at dksX1_fewest_1 7 rfl rfl)
theorem dX1_fewest_34 : decode cX1_fewest 34 = .ok (.iload_n 2, 1) := dk_28 (dk_at dksX1_fewest_1 10 rfl rfl)
theorem dX1_fewest_35 : decode cX1_fewest 35 = .ok (.goto 12, 3) := dk_167 0 12 (dk_at dksX1_fewest_1 11 rfl rfl)
theorem dX1_fewest_38 : decode cX1_fewest 38 = .ok (.iload_n 2, 1) := dk_28 (dk_at dksX1_fewest_1 14 rfl rfl)
theorem dX1_fewest_39 : decode cX1_fewest 39 = .ok (.aload 4, 2) := dk_25 4 (dk_at dksX1_fewest_1 15 rfl rfl)
theorem dX1_fewest_41 : decode cX1_fewest 41 = .ok (.invokevirtual 228, 3) := dk_182 0 228 (dk_at dksX1_fewest_1 17 rfl rfl)
theorem dX1_fewest_44 : decode cX1_fewest 44 = .ok (.invokestatic 231, 3) := dk_184 0 231 (dk_at dksX1_fewest_1 20 rfl rfl)
theorem dX1_fewest_47 : decode cX1_fewest 47 = .ok (.istore_n 2, 1) := dk_61 (dk_at dksX1_fewest_1 23 rfl rfl)
theorem dX1_fewest_48 : decode cX1_fewest 48 = .ok (.iinc 3 1, 3) := dk_132 3 1 (dk_at dksX1_fewest_2 0 rfl rfl)
theorem dX1_fewest_51 : decode cX1_fewest 51 = .ok (.goto (-45), 3) := dk_167 255 211 (dk_at dksX1_fewest_2 3 rfl rfl)
theorem dX1_fewest_54 : decode cX1_fewest 54 = .ok (.iload_n 2, 1) := dk_28 (dk_at dksX1_fewest_2 6 rfl rfl)
theorem dX1_fewest_55 : decode cX1_fewest 55 = .ok (.sipush 10000, 3) := dk_17 39 16 (dk_at dksX1_fewest_2 7 rfl rfl)
theorem dX1_fewest_58 : decode cX1_fewest 58 = .ok (.if_icmp .ne 9, 3) := dk_160 0 9 (dk_at dksX1_fewest_2 10 rfl rfl)
theorem dX1_fewest_61 : decode cX1_fewest 61 = .ok (.sipush (-1015), 3) := dk_17 252 9 (dk_at dksX1_fewest_2 13 rfl rfl)
theorem dX1_fewest_64 : decode cX1_fewest 64 = .ok (.goto 4, 3) := dk_167 0 4 (dk_at dksX1_fewest_2 16 rfl rfl)
theorem dX1_fewest_67 : decode cX1_fewest 67 = .ok (.iload_n 2, 1) := dk_28 (dk_at dksX1_fewest_2 19 rfl rfl)
theorem dX1_fewest_68 : decode cX1_fewest 68 = .ok (.ireturn, 1) := dk_172 (dk_at dksX1_fewest_2 20 rfl rfl)
abbrev cX1_isDoor : ByteArray := prog_4_method_6_code
def yX1_isDoor : MethodName := ⟨RX1, "isDoor", "(I)Z"⟩
def dkwX1_isDoor_0 : List UInt8 := [27, 3, 42, 180, 0, 20, 182, 0, 70, 4, 100, 184, 0, 77, 172]
abbrev dktX1_isDoor_0 : List UInt8 := dkwX1_isDoor_0 ++ []
theorem dksX1_isDoor_0 : cX1_isDoor.data.toList.drop 0 = dktX1_isDoor_0 := by decide +kernel
theorem dX1_isDoor_0 : decode cX1_isDoor 0 = .ok (.iload_n 1, 1) := dk_27 (dk_at dksX1_isDoor_0 0 rfl rfl)
theorem dX1_isDoor_1 : decode cX1_isDoor 1 = .ok (.iconst 0, 1) := dk_3 (dk_at dksX1_isDoor_0 1 rfl rfl)
theorem dX1_isDoor_2 : decode cX1_isDoor 2 = .ok (.aload_n 0, 1) := dk_42 (dk_at dksX1_isDoor_0 2 rfl rfl)
theorem dX1_isDoor_3 : decode cX1_isDoor 3 = .ok (.getfield 20, 3) := dk_180 0 20 (dk_at dksX1_isDoor_0 3 rfl rfl)
theorem dX1_isDoor_6 : decode cX1_isDoor 6 = .ok (.invokevirtual 70, 3) := dk_182 0 70 (dk_at dksX1_isDoor_0 6 rfl rfl)
theorem dX1_isDoor_9 : decode cX1_isDoor 9 = .ok (.iconst 1, 1) := dk_4 (dk_at dksX1_isDoor_0 9 rfl rfl)
theorem dX1_isDoor_10 : decode cX1_isDoor 10 = .ok (.isub, 1) := dk_100 (dk_at dksX1_isDoor_0 10 rfl rfl)
theorem dX1_isDoor_11 : decode cX1_isDoor 11 = .ok (.invokestatic 77, 3) := dk_184 0 77 (dk_at dksX1_isDoor_0 11 rfl rfl)
theorem dX1_isDoor_14 : decode cX1_isDoor 14 = .ok (.ireturn, 1) := dk_172 (dk_at dksX1_isDoor_0 14 rfl rfl)
abbrev cX1_goes : ByteArray := prog_4_method_16_code
def yX1_goes : MethodName := ⟨RX1, "goes", "(I)I"⟩
def dkwX1_goes_5 : List UInt8 := [167, 0, 4, 4, 96, 181, 0, 67, 42, 180, 0, 54, 172]
abbrev dktX1_goes_5 : List UInt8 := dkwX1_goes_5 ++ []
def dkwX1_goes_4 : List UInt8 := [44, 182, 0, 148, 182, 0, 152, 192, 0, 52, 58, 4, 42, 89, 180, 0, 67, 29, 156, 0, 7, 3]
abbrev dktX1_goes_4 : List UInt8 := dkwX1_goes_4 ++ dktX1_goes_5
def dkwX1_goes_3 : List UInt8 := [182, 0, 122, 182, 0, 141, 62, 42, 44, 42, 180, 0, 54, 182, 0, 145, 181, 0, 54, 42, 180, 0, 20, 27]
abbrev dktX1_goes_3 : List UInt8 := dkwX1_goes_3 ++ dktX1_goes_4
def dkwX1_goes_2 : List UInt8 := [42, 182, 0, 128, 184, 0, 85, 42, 42, 180, 0, 14, 42, 180, 0, 54, 182, 0, 90, 192, 0, 42]
abbrev dktX1_goes_2 : List UInt8 := dkwX1_goes_2 ++ dktX1_goes_3
def dkwX1_goes_1 : List UInt8 := [180, 0, 138, 184, 0, 85, 44, 42, 182, 0, 128, 182, 0, 131, 154, 0, 7, 4, 167, 0, 4, 3, 16, 6]
abbrev dktX1_goes_1 : List UInt8 := dkwX1_goes_1 ++ dktX1_goes_2
def dkwX1_goes_0 : List UInt8 := [42, 180, 0, 20, 27, 182, 0, 90, 192, 0, 52, 77, 42, 44, 182, 0, 134, 44, 180, 0, 124, 8, 44]
abbrev dktX1_goes_0 : List UInt8 := dkwX1_goes_0 ++ dktX1_goes_1
theorem dksX1_goes_0 : cX1_goes.data.toList.drop 0 = dktX1_goes_0 := by decide +kernel
theorem dksX1_goes_1 : cX1_goes.data.toList.drop 23 = dktX1_goes_1 := dk_seg dksX1_goes_0 23 rfl rfl
theorem dksX1_goes_2 : cX1_goes.data.toList.drop 47 = dktX1_goes_2 := dk_seg dksX1_goes_1 24 rfl rfl
theorem dksX1_goes_3 : cX1_goes.data.toList.drop 69 = dktX1_goes_3 := dk_seg dksX1_goes_2 22 rfl rfl
theorem dksX1_goes_4 : cX1_goes.data.toList.drop 93 = dktX1_goes_4 := dk_seg dksX1_goes_3 24 rfl rfl
theorem dksX1_goes_5 : cX1_goes.data.toList.drop 115 = dktX1_goes_5 := dk_seg dksX1_goes_4 22 rfl rfl
theorem dX1_goes_0 : decode cX1_goes 0 = .ok (.aload_n 0, 1) := dk_42 (dk_at dksX1_goes_0 0 rfl rfl)
theorem dX1_goes_1 : decode cX1_goes 1 = .ok (.getfield 20, 3) := dk_180 0 20 (dk_at dksX1_goes_0 1 rfl rfl)
theorem dX1_goes_4 : decode cX1_goes 4 = .ok (.iload_n 1, 1) := dk_27 (dk_at dksX1_goes_0 4 rfl rfl)
theorem dX1_goes_5 : decode cX1_goes 5 = .ok (.invokevirtual 90, 3) := dk_182 0 90 (dk_at dksX1_goes_0 5 rfl rfl)
theorem dX1_goes_8 : decode cX1_goes 8 = .ok (.checkcast 52, 3) := dk_192 0 52 (dk_at dksX1_goes_0 8 rfl rfl)
theorem dX1_goes_11 : decode cX1_goes 11 = .ok (.astore_n 2, 1) := dk_77 (dk_at dksX1_goes_0 11 rfl rfl)
theorem dX1_goes_12 : decode cX1_goes 12 = .ok (.aload_n 0, 1) := dk_42 (dk_at dksX1_goes_0 12 rfl rfl)
theorem dX1_goes_13 : decode cX1_goes 13 = .ok (.aload_n 2, 1) := dk_44 (dk_at dksX1_goes_0 13 rfl rfl)
theorem dX1_goes_14 : decode cX1_goes 14 = .ok (.invokevirtual 134, 3) := dk_182 0 134 (dk_at dksX1_goes_0 14 rfl rfl)
theorem dX1_goes_17 : decode cX1_goes 17 = .ok (.aload_n 2, 1) := dk_44 (dk_at dksX1_goes_0 17 rfl rfl)
theorem dX1_goes_18 : decode cX1_goes 18 = .ok (.getfield 124, 3) := dk_180 0 124 (dk_at dksX1_goes_0 18 rfl rfl)
theorem dX1_goes_21 : decode cX1_goes 21 = .ok (.iconst 5, 1) := dk_8 (dk_at dksX1_goes_0 21 rfl rfl)
theorem dX1_goes_22 : decode cX1_goes 22 = .ok (.aload_n 2, 1) := dk_44 (dk_at dksX1_goes_0 22 rfl rfl)
theorem dX1_goes_23 : decode cX1_goes 23 = .ok (.getfield 138, 3) := dk_180 0 138 (dk_at dksX1_goes_1 0 rfl rfl)
theorem dX1_goes_26 : decode cX1_goes 26 = .ok (.invokestatic 85, 3) := dk_184 0 85 (dk_at dksX1_goes_1 3 rfl rfl)
theorem dX1_goes_29 : decode cX1_goes 29 = .ok (.aload_n 2, 1) := dk_44 (dk_at dksX1_goes_1 6 rfl rfl)
theorem dX1_goes_30 : decode cX1_goes 30 = .ok (.aload_n 0, 1) := dk_42 (dk_at dksX1_goes_1 7 rfl rfl)
theorem dX1_goes_31 : decode cX1_goes 31 = .ok (.invokevirtual 128, 3) := dk_182 0 128 (dk_at dksX1_goes_1 8 rfl rfl)
theorem dX1_goes_34 : decode cX1_goes 34 = .ok (.invokevirtual 131, 3) := dk_182 0 131 (dk_at dksX1_goes_1 11 rfl rfl)
theorem dX1_goes_37 : decode cX1_goes 37 = .ok (.ifCond .ne 7, 3) := dk_154 0 7 (dk_at dksX1_goes_1 14 rfl rfl)
theorem dX1_goes_40 : decode cX1_goes 40 = .ok (.iconst 1, 1) := dk_4 (dk_at dksX1_goes_1 17 rfl rfl)
theorem dX1_goes_41 : decode cX1_goes 41 = .ok (.goto 4, 3) := dk_167 0 4 (dk_at dksX1_goes_1 18 rfl rfl)
theorem dX1_goes_44 : decode cX1_goes 44 = .ok (.iconst 0, 1) := dk_3 (dk_at dksX1_goes_1 21 rfl rfl)
theorem dX1_goes_45 : decode cX1_goes 45 = .ok (.bipush 6, 2) := dk_16 6 (dk_at dksX1_goes_1 22 rfl rfl)
theorem dX1_goes_47 : decode cX1_goes 47 = .ok (.aload_n 0, 1) := dk_42 (dk_at dksX1_goes_2 0 rfl rfl)
theorem dX1_goes_48 : decode cX1_goes 48 = .ok (.invokevirtual 128, 3) := dk_182 0 128 (dk_at dksX1_goes_2 1 rfl rfl)
theorem dX1_goes_51 : decode cX1_goes 51 = .ok (.invokestatic 85, 3) := dk_184 0 85 (dk_at dksX1_goes_2 4 rfl rfl)
theorem dX1_goes_54 : decode cX1_goes 54 = .ok (.aload_n 0, 1) := dk_42 (dk_at dksX1_goes_2 7 rfl rfl)
theorem dX1_goes_55 : decode cX1_goes 55 = .ok (.aload_n 0, 1) := dk_42 (dk_at dksX1_goes_2 8 rfl rfl)
theorem dX1_goes_56 : decode cX1_goes 56 = .ok (.getfield 14, 3) := dk_180 0 14 (dk_at dksX1_goes_2 9 rfl rfl)
theorem dX1_goes_59 : decode cX1_goes 59 = .ok (.aload_n 0, 1) := dk_42 (dk_at dksX1_goes_2 12 rfl rfl)
theorem dX1_goes_60 : decode cX1_goes 60 = .ok (.getfield 54, 3) := dk_180 0 54 (dk_at dksX1_goes_2 13 rfl rfl)
theorem dX1_goes_63 : decode cX1_goes 63 = .ok (.invokevirtual 90, 3) := dk_182 0 90 (dk_at dksX1_goes_2 16 rfl rfl)
theorem dX1_goes_66 : decode cX1_goes 66 = .ok (.checkcast 42, 3) := dk_192 0 42 (dk_at dksX1_goes_2 19 rfl rfl)
theorem dX1_goes_69 : decode cX1_goes 69 = .ok (.invokevirtual 122, 3) := dk_182 0 122 (dk_at dksX1_goes_3 0 rfl rfl)
theorem dX1_goes_72 : decode cX1_goes 72 = .ok (.invokevirtual 141, 3) := dk_182 0 141 (dk_at dksX1_goes_3 3 rfl rfl)
theorem dX1_goes_75 : decode cX1_goes 75 = .ok (.istore_n 3, 1) := dk_62 (dk_at dksX1_goes_3 6 rfl rfl)
theorem dX1_goes_76 : decode cX1_goes 76 = .ok (.aload_n 0, 1) := dk_42 (dk_at dksX1_goes_3 7 rfl rfl)
theorem dX1_goes_77 : decode cX1_goes 77 = .ok (.aload_n 2, 1) := dk_44 (dk_at dksX1_goes_3 8 rfl rfl)
theorem dX1_goes_78 : decode cX1_goes 78 = .ok (.aload_n 0, 1) := dk_42 (dk_at dksX1_goes_3 9 rfl rfl)
theorem dX1_goes_79 : decode cX1_goes 79 = .ok (.getfield 54, 3) := dk_180 0 54 (dk_at dksX1_goes_3 10 rfl rfl)
theorem dX1_goes_82 : decode cX1_goes 82 = .ok (.invokevirtual 145, 3) := dk_182 0 145 (dk_at dksX1_goes_3 13 rfl rfl)
theorem dX1_goes_85 : decode cX1_goes 85 = .ok (.putfield 54, 3) := dk_181 0 54 (dk_at dksX1_goes_3 16 rfl rfl)
theorem dX1_goes_88 : decode cX1_goes 88 = .ok (.aload_n 0, 1) := dk_42 (dk_at dksX1_goes_3 19 rfl rfl)
theorem dX1_goes_89 : decode cX1_goes 89 = .ok (.getfield 20, 3) := dk_180 0 20 (dk_at dksX1_goes_3 20 rfl rfl)
theorem dX1_goes_92 : decode cX1_goes 92 = .ok (.iload_n 1, 1) := dk_27 (dk_at dksX1_goes_3 23 rfl rfl)
theorem dX1_goes_93 : decode cX1_goes 93 = .ok (.aload_n 2, 1) := dk_44 (dk_at dksX1_goes_4 0 rfl rfl)
theorem dX1_goes_94 : decode cX1_goes 94 = .ok (.invokevirtual 148, 3) := dk_182 0 148 (dk_at dksX1_goes_4 1 rfl rfl)
theorem dX1_goes_97 : decode cX1_goes 97 = .ok (.invokevirtual 152, 3) := dk_182 0 152 (dk_at dksX1_goes_4 4 rfl rfl)
theorem dX1_goes_100 : decode cX1_goes 100 = .ok (.checkcast 52, 3) := dk_192 0 52 (dk_at dksX1_goes_4 7 rfl rfl)
theorem dX1_goes_103 : decode cX1_goes 103 = .ok (.astore 4, 2) := dk_58 4 (dk_at dksX1_goes_4 10 rfl rfl)
theorem dX1_goes_105 : decode cX1_goes 105 = .ok (.aload_n 0, 1) := dk_42 (dk_at dksX1_goes_4 12 rfl rfl)
theorem dX1_goes_106 : decode cX1_goes 106 = .ok (.dup, 1) := dk_89 (dk_at dksX1_goes_4 13 rfl rfl)
theorem dX1_goes_107 : decode cX1_goes 107 = .ok (.getfield 67, 3) := dk_180 0 67 (dk_at dksX1_goes_4 14 rfl rfl)
theorem dX1_goes_110 : decode cX1_goes 110 = .ok (.iload_n 3, 1) := dk_29 (dk_at dksX1_goes_4 17 rfl rfl)
theorem dX1_goes_111 : decode cX1_goes 111 = .ok (.ifCond .ge 7, 3) := dk_156 0 7 (dk_at dksX1_goes_4 18 rfl rfl)
theorem dX1_goes_114 : decode cX1_goes 114 = .ok (.iconst 0, 1) := dk_3 (dk_at dksX1_goes_4 21 rfl rfl)
theorem dX1_goes_115 : decode cX1_goes 115 = .ok (.goto 4, 3) := dk_167 0 4 (dk_at dksX1_goes_5 0 rfl rfl)
theorem dX1_goes_118 : decode cX1_goes 118 = .ok (.iconst 1, 1) := dk_4 (dk_at dksX1_goes_5 3 rfl rfl)
theorem dX1_goes_119 : decode cX1_goes 119 = .ok (.iadd, 1) := dk_96 (dk_at dksX1_goes_5 4 rfl rfl)
theorem dX1_goes_120 : decode cX1_goes 120 = .ok (.putfield 67, 3) := dk_181 0 67 (dk_at dksX1_goes_5 5 rfl rfl)
theorem dX1_goes_123 : decode cX1_goes 123 = .ok (.aload_n 0, 1) := dk_42 (dk_at dksX1_goes_5 8 rfl rfl)
theorem dX1_goes_124 : decode cX1_goes 124 = .ok (.getfield 54, 3) := dk_180 0 54 (dk_at dksX1_goes_5 9 rfl rfl)
theorem dX1_goes_127 : decode cX1_goes 127 = .ok (.ireturn, 1) := dk_172 (dk_at dksX1_goes_5 12 rfl rfl)
abbrev cX1_mustBeAt : ByteArray := prog_4_method_13_code
def yX1_mustBeAt : MethodName := ⟨RX1, "mustBeAt", "(LParityMaze$Door;)V"⟩
def dkwX1_mustBeAt_1 : List UInt8 := [177]
abbrev dktX1_mustBeAt_1 : List UInt8 := dkwX1_mustBeAt_1 ++ []
def dkwX1_mustBeAt_0 : List UInt8 := [43, 42, 180, 0, 54, 182, 0, 119, 154, 0, 7, 4, 167, 0, 4, 3, 7, 42, 180, 0, 54, 184, 0, 85]
abbrev dktX1_mustBeAt_0 : List UInt8 := dkwX1_mustBeAt_0 ++ dktX1_mustBeAt_1
theorem dksX1_mustBeAt_0 : cX1_mustBeAt.data.toList.drop 0 = dktX1_mustBeAt_0 := by decide +kernel
theorem dksX1_mustBeAt_1 : cX1_mustBeAt.data.toList.drop 24 = dktX1_mustBeAt_1 := dk_seg dksX1_mustBeAt_0 24 rfl rfl
theorem dX1_mustBeAt_0 : decode cX1_mustBeAt 0 = .ok (.aload_n 1, 1) := dk_43 (dk_at dksX1_mustBeAt_0 0 rfl rfl)
theorem dX1_mustBeAt_1 : decode cX1_mustBeAt 1 = .ok (.aload_n 0, 1) := dk_42 (dk_at dksX1_mustBeAt_0 1 rfl rfl)
theorem dX1_mustBeAt_2 : decode cX1_mustBeAt 2 = .ok (.getfield 54, 3) := dk_180 0 54 (dk_at dksX1_mustBeAt_0 2 rfl rfl)
theorem dX1_mustBeAt_5 : decode cX1_mustBeAt 5 = .ok (.invokevirtual 119, 3) := dk_182 0 119 (dk_at dksX1_mustBeAt_0 5 rfl rfl)
theorem dX1_mustBeAt_8 : decode cX1_mustBeAt 8 = .ok (.ifCond .ne 7, 3) := dk_154 0 7 (dk_at dksX1_mustBeAt_0 8 rfl rfl)
theorem dX1_mustBeAt_11 : decode cX1_mustBeAt 11 = .ok (.iconst 1, 1) := dk_4 (dk_at dksX1_mustBeAt_0 11 rfl rfl)
theorem dX1_mustBeAt_12 : decode cX1_mustBeAt 12 = .ok (.goto 4, 3) := dk_167 0 4 (dk_at dksX1_mustBeAt_0 12 rfl rfl)
theorem dX1_mustBeAt_15 : decode cX1_mustBeAt 15 = .ok (.iconst 0, 1) := dk_3 (dk_at dksX1_mustBeAt_0 15 rfl rfl)
theorem dX1_mustBeAt_16 : decode cX1_mustBeAt 16 = .ok (.iconst 4, 1) := dk_7 (dk_at dksX1_mustBeAt_0 16 rfl rfl)
theorem dX1_mustBeAt_17 : decode cX1_mustBeAt 17 = .ok (.aload_n 0, 1) := dk_42 (dk_at dksX1_mustBeAt_0 17 rfl rfl)
theorem dX1_mustBeAt_18 : decode cX1_mustBeAt 18 = .ok (.getfield 54, 3) := dk_180 0 54 (dk_at dksX1_mustBeAt_0 18 rfl rfl)
theorem dX1_mustBeAt_21 : decode cX1_mustBeAt 21 = .ok (.invokestatic 85, 3) := dk_184 0 85 (dk_at dksX1_mustBeAt_0 21 rfl rfl)
theorem dX1_mustBeAt_24 : decode cX1_mustBeAt 24 = .ok (.return_, 1) := dk_177 (dk_at dksX1_mustBeAt_1 0 rfl rfl)
abbrev cX1_lastStep : ByteArray := prog_4_method_14_code
def yX1_lastStep : MethodName := ⟨RX1, "lastStep", "()I"⟩
def dkwX1_lastStep_0 : List UInt8 := [42, 180, 0, 58, 42, 180, 0, 14, 42, 180, 0, 54, 182, 0, 90, 192, 0, 42, 182, 0, 122, 96, 172]
abbrev dktX1_lastStep_0 : List UInt8 := dkwX1_lastStep_0 ++ []
theorem dksX1_lastStep_0 : cX1_lastStep.data.toList.drop 0 = dktX1_lastStep_0 := by decide +kernel
theorem dX1_lastStep_0 : decode cX1_lastStep 0 = .ok (.aload_n 0, 1) := dk_42 (dk_at dksX1_lastStep_0 0 rfl rfl)
theorem dX1_lastStep_1 : decode cX1_lastStep 1 = .ok (.getfield 58, 3) := dk_180 0 58 (dk_at dksX1_lastStep_0 1 rfl rfl)
theorem dX1_lastStep_4 : decode cX1_lastStep 4 = .ok (.aload_n 0, 1) := dk_42 (dk_at dksX1_lastStep_0 4 rfl rfl)
theorem dX1_lastStep_5 : decode cX1_lastStep 5 = .ok (.getfield 14, 3) := dk_180 0 14 (dk_at dksX1_lastStep_0 5 rfl rfl)
theorem dX1_lastStep_8 : decode cX1_lastStep 8 = .ok (.aload_n 0, 1) := dk_42 (dk_at dksX1_lastStep_0 8 rfl rfl)
theorem dX1_lastStep_9 : decode cX1_lastStep 9 = .ok (.getfield 54, 3) := dk_180 0 54 (dk_at dksX1_lastStep_0 9 rfl rfl)
theorem dX1_lastStep_12 : decode cX1_lastStep 12 = .ok (.invokevirtual 90, 3) := dk_182 0 90 (dk_at dksX1_lastStep_0 12 rfl rfl)
theorem dX1_lastStep_15 : decode cX1_lastStep 15 = .ok (.checkcast 42, 3) := dk_192 0 42 (dk_at dksX1_lastStep_0 15 rfl rfl)
theorem dX1_lastStep_18 : decode cX1_lastStep 18 = .ok (.invokevirtual 122, 3) := dk_182 0 122 (dk_at dksX1_lastStep_0 18 rfl rfl)
theorem dX1_lastStep_21 : decode cX1_lastStep 21 = .ok (.iadd, 1) := dk_96 (dk_at dksX1_lastStep_0 21 rfl rfl)
theorem dX1_lastStep_22 : decode cX1_lastStep 22 = .ok (.ireturn, 1) := dk_172 (dk_at dksX1_lastStep_0 22 rfl rfl)
abbrev cX1_burns : ByteArray := prog_4_method_12_code
def yX1_burns : MethodName := ⟨RX1, "burns", "(I)I"⟩
def dkwX1_burns_3 : List UInt8 := [181, 0, 108, 167, 255, 195, 42, 89, 180, 0, 58, 27, 96, 181, 0, 58, 28, 172]
abbrev dktX1_burns_3 : List UInt8 := dkwX1_burns_3 ++ []
def dkwX1_burns_2 : List UInt8 := [27, 163, 0, 7, 4, 167, 0, 4, 3, 96, 61, 25, 4, 3, 25, 4, 180, 0, 108, 27, 100, 184, 0, 114]
abbrev dktX1_burns_2 : List UInt8 := dkwX1_burns_2 ++ dktX1_burns_3
def dkwX1_burns_1 : List UInt8 := [185, 0, 38, 1, 0, 192, 0, 42, 58, 4, 28, 25, 4, 182, 0, 111, 153, 0, 16, 25, 4, 180, 0, 108]
abbrev dktX1_burns_1 : List UInt8 := dkwX1_burns_1 ++ dktX1_burns_2
def dkwX1_burns_0 : List UInt8 := [3, 61, 42, 180, 0, 14, 182, 0, 28, 78, 45, 185, 0, 32, 1, 0, 153, 0, 58, 45]
abbrev dktX1_burns_0 : List UInt8 := dkwX1_burns_0 ++ dktX1_burns_1
theorem dksX1_burns_0 : cX1_burns.data.toList.drop 0 = dktX1_burns_0 := by decide +kernel
theorem dksX1_burns_1 : cX1_burns.data.toList.drop 20 = dktX1_burns_1 := dk_seg dksX1_burns_0 20 rfl rfl
theorem dksX1_burns_2 : cX1_burns.data.toList.drop 44 = dktX1_burns_2 := dk_seg dksX1_burns_1 24 rfl rfl
theorem dksX1_burns_3 : cX1_burns.data.toList.drop 68 = dktX1_burns_3 := dk_seg dksX1_burns_2 24 rfl rfl
theorem dX1_burns_0 : decode cX1_burns 0 = .ok (.iconst 0, 1) := dk_3 (dk_at dksX1_burns_0 0 rfl rfl)
theorem dX1_burns_1 : decode cX1_burns 1 = .ok (.istore_n 2, 1) := dk_61 (dk_at dksX1_burns_0 1 rfl rfl)
theorem dX1_burns_2 : decode cX1_burns 2 = .ok (.aload_n 0, 1) := dk_42 (dk_at dksX1_burns_0 2 rfl rfl)
theorem dX1_burns_3 : decode cX1_burns 3 = .ok (.getfield 14, 3) := dk_180 0 14 (dk_at dksX1_burns_0 3 rfl rfl)
theorem dX1_burns_6 : decode cX1_burns 6 = .ok (.invokevirtual 28, 3) := dk_182 0 28 (dk_at dksX1_burns_0 6 rfl rfl)
theorem dX1_burns_9 : decode cX1_burns 9 = .ok (.astore_n 3, 1) := dk_78 (dk_at dksX1_burns_0 9 rfl rfl)
theorem dX1_burns_10 : decode cX1_burns 10 = .ok (.aload_n 3, 1) := dk_45 (dk_at dksX1_burns_0 10 rfl rfl)
theorem dX1_burns_11 : decode cX1_burns 11 = .ok (.invokeinterface 32 1, 5) := by decide +kernel
theorem dX1_burns_16 : decode cX1_burns 16 = .ok (.ifCond .eq 58, 3) := dk_153 0 58 (dk_at dksX1_burns_0 16 rfl rfl)
theorem dX1_burns_19 : decode cX1_burns 19 = .ok (.aload_n 3, 1) := dk_45 (dk_at dksX1_burns_0 19 rfl rfl)
theorem dX1_burns_20 : decode cX1_burns 20 = .ok (.invokeinterface 38 1, 5) := by decide +kernel
theorem dX1_burns_25 : decode cX1_burns 25 = .ok (.checkcast 42, 3) := dk_192 0 42 (dk_at dksX1_burns_1 5 rfl rfl)
theorem dX1_burns_28 : decode cX1_burns 28 = .ok (.astore 4, 2) := dk_58 4 (dk_at dksX1_burns_1 8 rfl rfl)
theorem dX1_burns_30 : decode cX1_burns 30 = .ok (.iload_n 2, 1) := dk_28 (dk_at dksX1_burns_1 10 rfl rfl)
theorem dX1_burns_31 : decode cX1_burns 31 = .ok (.aload 4, 2) := dk_25 4 (dk_at dksX1_burns_1 11 rfl rfl)
theorem dX1_burns_33 : decode cX1_burns 33 = .ok (.invokevirtual 111, 3) := dk_182 0 111 (dk_at dksX1_burns_1 13 rfl rfl)
theorem dX1_burns_36 : decode cX1_burns 36 = .ok (.ifCond .eq 16, 3) := dk_153 0 16 (dk_at dksX1_burns_1 16 rfl rfl)
theorem dX1_burns_39 : decode cX1_burns 39 = .ok (.aload 4, 2) := dk_25 4 (dk_at dksX1_burns_1 19 rfl rfl)
theorem dX1_burns_41 : decode cX1_burns 41 = .ok (.getfield 108, 3) := dk_180 0 108 (dk_at dksX1_burns_1 21 rfl rfl)
theorem dX1_burns_44 : decode cX1_burns 44 = .ok (.iload_n 1, 1) := dk_27 (dk_at dksX1_burns_2 0 rfl rfl)
theorem dX1_burns_45 : decode cX1_burns 45 = .ok (.if_icmp .gt 7, 3) := dk_163 0 7 (dk_at dksX1_burns_2 1 rfl rfl)
theorem dX1_burns_48 : decode cX1_burns 48 = .ok (.iconst 1, 1) := dk_4 (dk_at dksX1_burns_2 4 rfl rfl)
theorem dX1_burns_49 : decode cX1_burns 49 = .ok (.goto 4, 3) := dk_167 0 4 (dk_at dksX1_burns_2 5 rfl rfl)
theorem dX1_burns_52 : decode cX1_burns 52 = .ok (.iconst 0, 1) := dk_3 (dk_at dksX1_burns_2 8 rfl rfl)
theorem dX1_burns_53 : decode cX1_burns 53 = .ok (.iadd, 1) := dk_96 (dk_at dksX1_burns_2 9 rfl rfl)
theorem dX1_burns_54 : decode cX1_burns 54 = .ok (.istore_n 2, 1) := dk_61 (dk_at dksX1_burns_2 10 rfl rfl)
theorem dX1_burns_55 : decode cX1_burns 55 = .ok (.aload 4, 2) := dk_25 4 (dk_at dksX1_burns_2 11 rfl rfl)
theorem dX1_burns_57 : decode cX1_burns 57 = .ok (.iconst 0, 1) := dk_3 (dk_at dksX1_burns_2 13 rfl rfl)
theorem dX1_burns_58 : decode cX1_burns 58 = .ok (.aload 4, 2) := dk_25 4 (dk_at dksX1_burns_2 14 rfl rfl)
theorem dX1_burns_60 : decode cX1_burns 60 = .ok (.getfield 108, 3) := dk_180 0 108 (dk_at dksX1_burns_2 16 rfl rfl)
theorem dX1_burns_63 : decode cX1_burns 63 = .ok (.iload_n 1, 1) := dk_27 (dk_at dksX1_burns_2 19 rfl rfl)
theorem dX1_burns_64 : decode cX1_burns 64 = .ok (.isub, 1) := dk_100 (dk_at dksX1_burns_2 20 rfl rfl)
theorem dX1_burns_65 : decode cX1_burns 65 = .ok (.invokestatic 114, 3) := dk_184 0 114 (dk_at dksX1_burns_2 21 rfl rfl)
theorem dX1_burns_68 : decode cX1_burns 68 = .ok (.putfield 108, 3) := dk_181 0 108 (dk_at dksX1_burns_3 0 rfl rfl)
theorem dX1_burns_71 : decode cX1_burns 71 = .ok (.goto (-61), 3) := dk_167 255 195 (dk_at dksX1_burns_3 3 rfl rfl)
theorem dX1_burns_74 : decode cX1_burns 74 = .ok (.aload_n 0, 1) := dk_42 (dk_at dksX1_burns_3 6 rfl rfl)
theorem dX1_burns_75 : decode cX1_burns 75 = .ok (.dup, 1) := dk_89 (dk_at dksX1_burns_3 7 rfl rfl)
theorem dX1_burns_76 : decode cX1_burns 76 = .ok (.getfield 58, 3) := dk_180 0 58 (dk_at dksX1_burns_3 8 rfl rfl)
theorem dX1_burns_79 : decode cX1_burns 79 = .ok (.iload_n 1, 1) := dk_27 (dk_at dksX1_burns_3 11 rfl rfl)
theorem dX1_burns_80 : decode cX1_burns 80 = .ok (.iadd, 1) := dk_96 (dk_at dksX1_burns_3 12 rfl rfl)
theorem dX1_burns_81 : decode cX1_burns 81 = .ok (.putfield 58, 3) := dk_181 0 58 (dk_at dksX1_burns_3 13 rfl rfl)
theorem dX1_burns_84 : decode cX1_burns 84 = .ok (.iload_n 2, 1) := dk_28 (dk_at dksX1_burns_3 16 rfl rfl)
theorem dX1_burns_85 : decode cX1_burns 85 = .ok (.ireturn, 1) := dk_172 (dk_at dksX1_burns_3 17 rfl rfl)
abbrev cX1_rests : ByteArray := prog_4_method_18_code
def yX1_rests : MethodName := ⟨RX1, "rests", "(I)I"⟩
def dkwX1_rests_0 : List UInt8 := [42, 182, 0, 159, 42, 27, 182, 0, 141, 172]
abbrev dktX1_rests_0 : List UInt8 := dkwX1_rests_0 ++ []
theorem dksX1_rests_0 : cX1_rests.data.toList.drop 0 = dktX1_rests_0 := by decide +kernel
theorem dX1_rests_0 : decode cX1_rests 0 = .ok (.aload_n 0, 1) := dk_42 (dk_at dksX1_rests_0 0 rfl rfl)
theorem dX1_rests_1 : decode cX1_rests 1 = .ok (.invokevirtual 159, 3) := dk_182 0 159 (dk_at dksX1_rests_0 1 rfl rfl)
theorem dX1_rests_4 : decode cX1_rests 4 = .ok (.aload_n 0, 1) := dk_42 (dk_at dksX1_rests_0 4 rfl rfl)
theorem dX1_rests_5 : decode cX1_rests 5 = .ok (.iload_n 1, 1) := dk_27 (dk_at dksX1_rests_0 5 rfl rfl)
theorem dX1_rests_6 : decode cX1_rests 6 = .ok (.invokevirtual 141, 3) := dk_182 0 141 (dk_at dksX1_rests_0 6 rfl rfl)
theorem dX1_rests_9 : decode cX1_rests 9 = .ok (.ireturn, 1) := dk_172 (dk_at dksX1_rests_0 9 rfl rfl)
abbrev cX1_mustHaveRooms : ByteArray := prog_4_method_17_code
def yX1_mustHaveRooms : MethodName := ⟨RX1, "mustHaveRooms", "()V"⟩
def dkwX1_mustHaveRooms_0 : List UInt8 := [42, 180, 0, 14, 182, 0, 156, 16, 11, 3, 184, 0, 85, 177]
abbrev dktX1_mustHaveRooms_0 : List UInt8 := dkwX1_mustHaveRooms_0 ++ []
theorem dksX1_mustHaveRooms_0 : cX1_mustHaveRooms.data.toList.drop 0 = dktX1_mustHaveRooms_0 := by decide +kernel
theorem dX1_mustHaveRooms_0 : decode cX1_mustHaveRooms 0 = .ok (.aload_n 0, 1) := dk_42 (dk_at dksX1_mustHaveRooms_0 0 rfl rfl)
theorem dX1_mustHaveRooms_1 : decode cX1_mustHaveRooms 1 = .ok (.getfield 14, 3) := dk_180 0 14 (dk_at dksX1_mustHaveRooms_0 1 rfl rfl)
theorem dX1_mustHaveRooms_4 : decode cX1_mustHaveRooms 4 = .ok (.invokevirtual 156, 3) := dk_182 0 156 (dk_at dksX1_mustHaveRooms_0 4 rfl rfl)
theorem dX1_mustHaveRooms_7 : decode cX1_mustHaveRooms 7 = .ok (.bipush 11, 2) := dk_16 11 (dk_at dksX1_mustHaveRooms_0 7 rfl rfl)
theorem dX1_mustHaveRooms_9 : decode cX1_mustHaveRooms 9 = .ok (.iconst 0, 1) := dk_3 (dk_at dksX1_mustHaveRooms_0 9 rfl rfl)
theorem dX1_mustHaveRooms_10 : decode cX1_mustHaveRooms 10 = .ok (.invokestatic 85, 3) := dk_184 0 85 (dk_at dksX1_mustHaveRooms_0 10 rfl rfl)
theorem dX1_mustHaveRooms_13 : decode cX1_mustHaveRooms 13 = .ok (.return_, 1) := dk_177 (dk_at dksX1_mustHaveRooms_0 13 rfl rfl)
abbrev cX1_takes : ByteArray := prog_4_method_19_code
def yX1_takes : MethodName := ⟨RX1, "takes", "(I)I"⟩
def dkwX1_takes_3 : List UInt8 := [42, 180, 0, 23, 27, 92, 46, 4, 96, 79, 42, 180, 0, 23, 27, 46, 172]
abbrev dktX1_takes_3 : List UInt8 := dkwX1_takes_3 ++ []
def dkwX1_takes_2 : List UInt8 := [16, 9, 160, 0, 7, 4, 167, 0, 4, 3, 16, 10, 16, 10, 184, 0, 85, 44, 27, 92, 46, 4, 100, 79]
abbrev dktX1_takes_2 : List UInt8 := dkwX1_takes_2 ++ dktX1_takes_3
def dkwX1_takes_1 : List UInt8 := [46, 154, 0, 7, 4, 167, 0, 4, 3, 16, 7, 42, 180, 0, 54, 184, 0, 85, 42, 180, 0, 23, 27, 46]
abbrev dktX1_takes_1 : List UInt8 := dkwX1_takes_1 ++ dktX1_takes_2
def dkwX1_takes_0 : List UInt8 := [42, 182, 0, 159, 42, 180, 0, 14, 42, 180, 0, 54, 182, 0, 90, 192, 0, 42, 180, 0, 105, 77, 44, 27]
abbrev dktX1_takes_0 : List UInt8 := dkwX1_takes_0 ++ dktX1_takes_1
theorem dksX1_takes_0 : cX1_takes.data.toList.drop 0 = dktX1_takes_0 := by decide +kernel
theorem dksX1_takes_1 : cX1_takes.data.toList.drop 24 = dktX1_takes_1 := dk_seg dksX1_takes_0 24 rfl rfl
theorem dksX1_takes_2 : cX1_takes.data.toList.drop 48 = dktX1_takes_2 := dk_seg dksX1_takes_1 24 rfl rfl
theorem dksX1_takes_3 : cX1_takes.data.toList.drop 72 = dktX1_takes_3 := dk_seg dksX1_takes_2 24 rfl rfl
theorem dX1_takes_0 : decode cX1_takes 0 = .ok (.aload_n 0, 1) := dk_42 (dk_at dksX1_takes_0 0 rfl rfl)
theorem dX1_takes_1 : decode cX1_takes 1 = .ok (.invokevirtual 159, 3) := dk_182 0 159 (dk_at dksX1_takes_0 1 rfl rfl)
theorem dX1_takes_4 : decode cX1_takes 4 = .ok (.aload_n 0, 1) := dk_42 (dk_at dksX1_takes_0 4 rfl rfl)
theorem dX1_takes_5 : decode cX1_takes 5 = .ok (.getfield 14, 3) := dk_180 0 14 (dk_at dksX1_takes_0 5 rfl rfl)
theorem dX1_takes_8 : decode cX1_takes 8 = .ok (.aload_n 0, 1) := dk_42 (dk_at dksX1_takes_0 8 rfl rfl)
theorem dX1_takes_9 : decode cX1_takes 9 = .ok (.getfield 54, 3) := dk_180 0 54 (dk_at dksX1_takes_0 9 rfl rfl)
theorem dX1_takes_12 : decode cX1_takes 12 = .ok (.invokevirtual 90, 3) := dk_182 0 90 (dk_at dksX1_takes_0 12 rfl rfl)
theorem dX1_takes_15 : decode cX1_takes 15 = .ok (.checkcast 42, 3) := dk_192 0 42 (dk_at dksX1_takes_0 15 rfl rfl)
theorem dX1_takes_18 : decode cX1_takes 18 = .ok (.getfield 105, 3) := dk_180 0 105 (dk_at dksX1_takes_0 18 rfl rfl)
theorem dX1_takes_21 : decode cX1_takes 21 = .ok (.astore_n 2, 1) := dk_77 (dk_at dksX1_takes_0 21 rfl rfl)
theorem dX1_takes_22 : decode cX1_takes 22 = .ok (.aload_n 2, 1) := dk_44 (dk_at dksX1_takes_0 22 rfl rfl)
theorem dX1_takes_23 : decode cX1_takes 23 = .ok (.iload_n 1, 1) := dk_27 (dk_at dksX1_takes_0 23 rfl rfl)
theorem dX1_takes_24 : decode cX1_takes 24 = .ok (.iaload, 1) := dk_46 (dk_at dksX1_takes_1 0 rfl rfl)
theorem dX1_takes_25 : decode cX1_takes 25 = .ok (.ifCond .ne 7, 3) := dk_154 0 7 (dk_at dksX1_takes_1 1 rfl rfl)
theorem dX1_takes_28 : decode cX1_takes 28 = .ok (.iconst 1, 1) := dk_4 (dk_at dksX1_takes_1 4 rfl rfl)
theorem dX1_takes_29 : decode cX1_takes 29 = .ok (.goto 4, 3) := dk_167 0 4 (dk_at dksX1_takes_1 5 rfl rfl)
theorem dX1_takes_32 : decode cX1_takes 32 = .ok (.iconst 0, 1) := dk_3 (dk_at dksX1_takes_1 8 rfl rfl)
theorem dX1_takes_33 : decode cX1_takes 33 = .ok (.bipush 7, 2) := dk_16 7 (dk_at dksX1_takes_1 9 rfl rfl)
theorem dX1_takes_35 : decode cX1_takes 35 = .ok (.aload_n 0, 1) := dk_42 (dk_at dksX1_takes_1 11 rfl rfl)
theorem dX1_takes_36 : decode cX1_takes 36 = .ok (.getfield 54, 3) := dk_180 0 54 (dk_at dksX1_takes_1 12 rfl rfl)
theorem dX1_takes_39 : decode cX1_takes 39 = .ok (.invokestatic 85, 3) := dk_184 0 85 (dk_at dksX1_takes_1 15 rfl rfl)
theorem dX1_takes_42 : decode cX1_takes 42 = .ok (.aload_n 0, 1) := dk_42 (dk_at dksX1_takes_1 18 rfl rfl)
theorem dX1_takes_43 : decode cX1_takes 43 = .ok (.getfield 23, 3) := dk_180 0 23 (dk_at dksX1_takes_1 19 rfl rfl)
theorem dX1_takes_46 : decode cX1_takes 46 = .ok (.iload_n 1, 1) := dk_27 (dk_at dksX1_takes_1 22 rfl rfl)
theorem dX1_takes_47 : decode cX1_takes 47 = .ok (.iaload, 1) := dk_46 (dk_at dksX1_takes_1 23 rfl rfl)
theorem dX1_takes_48 : decode cX1_takes 48 = .ok (.bipush 9, 2) := dk_16 9 (dk_at dksX1_takes_2 0 rfl rfl)
theorem dX1_takes_50 : decode cX1_takes 50 = .ok (.if_icmp .ne 7, 3) := dk_160 0 7 (dk_at dksX1_takes_2 2 rfl rfl)
theorem dX1_takes_53 : decode cX1_takes 53 = .ok (.iconst 1, 1) := dk_4 (dk_at dksX1_takes_2 5 rfl rfl)
theorem dX1_takes_54 : decode cX1_takes 54 = .ok (.goto 4, 3) := dk_167 0 4 (dk_at dksX1_takes_2 6 rfl rfl)
theorem dX1_takes_57 : decode cX1_takes 57 = .ok (.iconst 0, 1) := dk_3 (dk_at dksX1_takes_2 9 rfl rfl)
theorem dX1_takes_58 : decode cX1_takes 58 = .ok (.bipush 10, 2) := dk_16 10 (dk_at dksX1_takes_2 10 rfl rfl)
theorem dX1_takes_60 : decode cX1_takes 60 = .ok (.bipush 10, 2) := dk_16 10 (dk_at dksX1_takes_2 12 rfl rfl)
theorem dX1_takes_62 : decode cX1_takes 62 = .ok (.invokestatic 85, 3) := dk_184 0 85 (dk_at dksX1_takes_2 14 rfl rfl)
theorem dX1_takes_65 : decode cX1_takes 65 = .ok (.aload_n 2, 1) := dk_44 (dk_at dksX1_takes_2 17 rfl rfl)
theorem dX1_takes_66 : decode cX1_takes 66 = .ok (.iload_n 1, 1) := dk_27 (dk_at dksX1_takes_2 18 rfl rfl)
theorem dX1_takes_67 : decode cX1_takes 67 = .ok (.dup2, 1) := dk_92 (dk_at dksX1_takes_2 19 rfl rfl)
theorem dX1_takes_68 : decode cX1_takes 68 = .ok (.iaload, 1) := dk_46 (dk_at dksX1_takes_2 20 rfl rfl)
theorem dX1_takes_69 : decode cX1_takes 69 = .ok (.iconst 1, 1) := dk_4 (dk_at dksX1_takes_2 21 rfl rfl)
theorem dX1_takes_70 : decode cX1_takes 70 = .ok (.isub, 1) := dk_100 (dk_at dksX1_takes_2 22 rfl rfl)
theorem dX1_takes_71 : decode cX1_takes 71 = .ok (.iastore, 1) := dk_79 (dk_at dksX1_takes_2 23 rfl rfl)
theorem dX1_takes_72 : decode cX1_takes 72 = .ok (.aload_n 0, 1) := dk_42 (dk_at dksX1_takes_3 0 rfl rfl)
theorem dX1_takes_73 : decode cX1_takes 73 = .ok (.getfield 23, 3) := dk_180 0 23 (dk_at dksX1_takes_3 1 rfl rfl)
theorem dX1_takes_76 : decode cX1_takes 76 = .ok (.iload_n 1, 1) := dk_27 (dk_at dksX1_takes_3 4 rfl rfl)
theorem dX1_takes_77 : decode cX1_takes 77 = .ok (.dup2, 1) := dk_92 (dk_at dksX1_takes_3 5 rfl rfl)
theorem dX1_takes_78 : decode cX1_takes 78 = .ok (.iaload, 1) := dk_46 (dk_at dksX1_takes_3 6 rfl rfl)
theorem dX1_takes_79 : decode cX1_takes 79 = .ok (.iconst 1, 1) := dk_4 (dk_at dksX1_takes_3 7 rfl rfl)
theorem dX1_takes_80 : decode cX1_takes 80 = .ok (.iadd, 1) := dk_96 (dk_at dksX1_takes_3 8 rfl rfl)
theorem dX1_takes_81 : decode cX1_takes 81 = .ok (.iastore, 1) := dk_79 (dk_at dksX1_takes_3 9 rfl rfl)
theorem dX1_takes_82 : decode cX1_takes 82 = .ok (.aload_n 0, 1) := dk_42 (dk_at dksX1_takes_3 10 rfl rfl)
theorem dX1_takes_83 : decode cX1_takes 83 = .ok (.getfield 23, 3) := dk_180 0 23 (dk_at dksX1_takes_3 11 rfl rfl)
theorem dX1_takes_86 : decode cX1_takes 86 = .ok (.iload_n 1, 1) := dk_27 (dk_at dksX1_takes_3 14 rfl rfl)
theorem dX1_takes_87 : decode cX1_takes 87 = .ok (.iaload, 1) := dk_46 (dk_at dksX1_takes_3 15 rfl rfl)
theorem dX1_takes_88 : decode cX1_takes 88 = .ok (.ireturn, 1) := dk_172 (dk_at dksX1_takes_3 16 rfl rfl)
abbrev cX1_opens : ByteArray := prog_4_method_20_code
def yX1_opens : MethodName := ⟨RX1, "opens", "(I)I"⟩
def dkwX1_opens_4 : List UInt8 := [182, 0, 152, 192, 0, 52, 58, 4, 42, 180, 0, 23, 44, 180, 0, 138, 46, 172]
abbrev dktX1_opens_4 : List UInt8 := dkwX1_opens_4 ++ []
def dkwX1_opens_3 : List UInt8 := [5, 100, 79, 42, 89, 180, 0, 64, 5, 96, 181, 0, 64, 42, 180, 0, 20, 27, 44, 182, 0, 162]
abbrev dktX1_opens_3 : List UInt8 := dkwX1_opens_3 ++ dktX1_opens_4
def dkwX1_opens_2 : List UInt8 := [162, 0, 7, 4, 167, 0, 4, 3, 16, 8, 29, 184, 0, 85, 42, 180, 0, 23, 44, 180, 0, 138, 92, 46]
abbrev dktX1_opens_2 : List UInt8 := dkwX1_opens_2 ++ dktX1_opens_3
def dkwX1_opens_1 : List UInt8 := [4, 167, 0, 4, 3, 16, 9, 27, 184, 0, 85, 42, 180, 0, 23, 44, 180, 0, 138, 46, 62, 29, 5]
abbrev dktX1_opens_1 : List UInt8 := dkwX1_opens_1 ++ dktX1_opens_2
def dkwX1_opens_0 : List UInt8 := [42, 180, 0, 20, 27, 182, 0, 90, 192, 0, 52, 77, 42, 44, 182, 0, 134, 44, 180, 0, 124, 154, 0, 7]
abbrev dktX1_opens_0 : List UInt8 := dkwX1_opens_0 ++ dktX1_opens_1
theorem dksX1_opens_0 : cX1_opens.data.toList.drop 0 = dktX1_opens_0 := by decide +kernel
theorem dksX1_opens_1 : cX1_opens.data.toList.drop 24 = dktX1_opens_1 := dk_seg dksX1_opens_0 24 rfl rfl
theorem dksX1_opens_2 : cX1_opens.data.toList.drop 47 = dktX1_opens_2 := dk_seg dksX1_opens_1 23 rfl rfl
theorem dksX1_opens_3 : cX1_opens.data.toList.drop 71 = dktX1_opens_3 := dk_seg dksX1_opens_2 24 rfl rfl
theorem dksX1_opens_4 : cX1_opens.data.toList.drop 93 = dktX1_opens_4 := dk_seg dksX1_opens_3 22 rfl rfl
theorem dX1_opens_0 : decode cX1_opens 0 = .ok (.aload_n 0, 1) := dk_42 (dk_at dksX1_opens_0 0 rfl rfl)
theorem dX1_opens_1 : decode cX1_opens 1 = .ok (.getfield 20, 3) := dk_180 0 20 (dk_at dksX1_opens_0 1 rfl rfl)
theorem dX1_opens_4 : decode cX1_opens 4 = .ok (.iload_n 1, 1) := dk_27 (dk_at dksX1_opens_0 4 rfl rfl)
theorem dX1_opens_5 : decode cX1_opens 5 = .ok (.invokevirtual 90, 3) := dk_182 0 90 (dk_at dksX1_opens_0 5 rfl rfl)
theorem dX1_opens_8 : decode cX1_opens 8 = .ok (.checkcast 52, 3) := dk_192 0 52 (dk_at dksX1_opens_0 8 rfl rfl)
theorem dX1_opens_11 : decode cX1_opens 11 = .ok (.astore_n 2, 1) := dk_77 (dk_at dksX1_opens_0 11 rfl rfl)
theorem dX1_opens_12 : decode cX1_opens 12 = .ok (.aload_n 0, 1) := dk_42 (dk_at dksX1_opens_0 12 rfl rfl)
theorem dX1_opens_13 : decode cX1_opens 13 = .ok (.aload_n 2, 1) := dk_44 (dk_at dksX1_opens_0 13 rfl rfl)
theorem dX1_opens_14 : decode cX1_opens 14 = .ok (.invokevirtual 134, 3) := dk_182 0 134 (dk_at dksX1_opens_0 14 rfl rfl)
theorem dX1_opens_17 : decode cX1_opens 17 = .ok (.aload_n 2, 1) := dk_44 (dk_at dksX1_opens_0 17 rfl rfl)
theorem dX1_opens_18 : decode cX1_opens 18 = .ok (.getfield 124, 3) := dk_180 0 124 (dk_at dksX1_opens_0 18 rfl rfl)
theorem dX1_opens_21 : decode cX1_opens 21 = .ok (.ifCond .ne 7, 3) := dk_154 0 7 (dk_at dksX1_opens_0 21 rfl rfl)
theorem dX1_opens_24 : decode cX1_opens 24 = .ok (.iconst 1, 1) := dk_4 (dk_at dksX1_opens_1 0 rfl rfl)
theorem dX1_opens_25 : decode cX1_opens 25 = .ok (.goto 4, 3) := dk_167 0 4 (dk_at dksX1_opens_1 1 rfl rfl)
theorem dX1_opens_28 : decode cX1_opens 28 = .ok (.iconst 0, 1) := dk_3 (dk_at dksX1_opens_1 4 rfl rfl)
theorem dX1_opens_29 : decode cX1_opens 29 = .ok (.bipush 9, 2) := dk_16 9 (dk_at dksX1_opens_1 5 rfl rfl)
theorem dX1_opens_31 : decode cX1_opens 31 = .ok (.iload_n 1, 1) := dk_27 (dk_at dksX1_opens_1 7 rfl rfl)
theorem dX1_opens_32 : decode cX1_opens 32 = .ok (.invokestatic 85, 3) := dk_184 0 85 (dk_at dksX1_opens_1 8 rfl rfl)
theorem dX1_opens_35 : decode cX1_opens 35 = .ok (.aload_n 0, 1) := dk_42 (dk_at dksX1_opens_1 11 rfl rfl)
theorem dX1_opens_36 : decode cX1_opens 36 = .ok (.getfield 23, 3) := dk_180 0 23 (dk_at dksX1_opens_1 12 rfl rfl)
theorem dX1_opens_39 : decode cX1_opens 39 = .ok (.aload_n 2, 1) := dk_44 (dk_at dksX1_opens_1 15 rfl rfl)
theorem dX1_opens_40 : decode cX1_opens 40 = .ok (.getfield 138, 3) := dk_180 0 138 (dk_at dksX1_opens_1 16 rfl rfl)
theorem dX1_opens_43 : decode cX1_opens 43 = .ok (.iaload, 1) := dk_46 (dk_at dksX1_opens_1 19 rfl rfl)
theorem dX1_opens_44 : decode cX1_opens 44 = .ok (.istore_n 3, 1) := dk_62 (dk_at dksX1_opens_1 20 rfl rfl)
theorem dX1_opens_45 : decode cX1_opens 45 = .ok (.iload_n 3, 1) := dk_29 (dk_at dksX1_opens_1 21 rfl rfl)
theorem dX1_opens_46 : decode cX1_opens 46 = .ok (.iconst 2, 1) := dk_5 (dk_at dksX1_opens_1 22 rfl rfl)
theorem dX1_opens_47 : decode cX1_opens 47 = .ok (.if_icmp .ge 7, 3) := dk_162 0 7 (dk_at dksX1_opens_2 0 rfl rfl)
theorem dX1_opens_50 : decode cX1_opens 50 = .ok (.iconst 1, 1) := dk_4 (dk_at dksX1_opens_2 3 rfl rfl)
theorem dX1_opens_51 : decode cX1_opens 51 = .ok (.goto 4, 3) := dk_167 0 4 (dk_at dksX1_opens_2 4 rfl rfl)
theorem dX1_opens_54 : decode cX1_opens 54 = .ok (.iconst 0, 1) := dk_3 (dk_at dksX1_opens_2 7 rfl rfl)
theorem dX1_opens_55 : decode cX1_opens 55 = .ok (.bipush 8, 2) := dk_16 8 (dk_at dksX1_opens_2 8 rfl rfl)
theorem dX1_opens_57 : decode cX1_opens 57 = .ok (.iload_n 3, 1) := dk_29 (dk_at dksX1_opens_2 10 rfl rfl)
theorem dX1_opens_58 : decode cX1_opens 58 = .ok (.invokestatic 85, 3) := dk_184 0 85 (dk_at dksX1_opens_2 11 rfl rfl)
theorem dX1_opens_61 : decode cX1_opens 61 = .ok (.aload_n 0, 1) := dk_42 (dk_at dksX1_opens_2 14 rfl rfl)
theorem dX1_opens_62 : decode cX1_opens 62 = .ok (.getfield 23, 3) := dk_180 0 23 (dk_at dksX1_opens_2 15 rfl rfl)
theorem dX1_opens_65 : decode cX1_opens 65 = .ok (.aload_n 2, 1) := dk_44 (dk_at dksX1_opens_2 18 rfl rfl)
theorem dX1_opens_66 : decode cX1_opens 66 = .ok (.getfield 138, 3) := dk_180 0 138 (dk_at dksX1_opens_2 19 rfl rfl)
theorem dX1_opens_69 : decode cX1_opens 69 = .ok (.dup2, 1) := dk_92 (dk_at dksX1_opens_2 22 rfl rfl)
theorem dX1_opens_70 : decode cX1_opens 70 = .ok (.iaload, 1) := dk_46 (dk_at dksX1_opens_2 23 rfl rfl)
theorem dX1_opens_71 : decode cX1_opens 71 = .ok (.iconst 2, 1) := dk_5 (dk_at dksX1_opens_3 0 rfl rfl)
theorem dX1_opens_72 : decode cX1_opens 72 = .ok (.isub, 1) := dk_100 (dk_at dksX1_opens_3 1 rfl rfl)
theorem dX1_opens_73 : decode cX1_opens 73 = .ok (.iastore, 1) := dk_79 (dk_at dksX1_opens_3 2 rfl rfl)
theorem dX1_opens_74 : decode cX1_opens 74 = .ok (.aload_n 0, 1) := dk_42 (dk_at dksX1_opens_3 3 rfl rfl)
theorem dX1_opens_75 : decode cX1_opens 75 = .ok (.dup, 1) := dk_89 (dk_at dksX1_opens_3 4 rfl rfl)
theorem dX1_opens_76 : decode cX1_opens 76 = .ok (.getfield 64, 3) := dk_180 0 64 (dk_at dksX1_opens_3 5 rfl rfl)
theorem dX1_opens_79 : decode cX1_opens 79 = .ok (.iconst 2, 1) := dk_5 (dk_at dksX1_opens_3 8 rfl rfl)
theorem dX1_opens_80 : decode cX1_opens 80 = .ok (.iadd, 1) := dk_96 (dk_at dksX1_opens_3 9 rfl rfl)
theorem dX1_opens_81 : decode cX1_opens 81 = .ok (.putfield 64, 3) := dk_181 0 64 (dk_at dksX1_opens_3 10 rfl rfl)
theorem dX1_opens_84 : decode cX1_opens 84 = .ok (.aload_n 0, 1) := dk_42 (dk_at dksX1_opens_3 13 rfl rfl)
theorem dX1_opens_85 : decode cX1_opens 85 = .ok (.getfield 20, 3) := dk_180 0 20 (dk_at dksX1_opens_3 14 rfl rfl)
theorem dX1_opens_88 : decode cX1_opens 88 = .ok (.iload_n 1, 1) := dk_27 (dk_at dksX1_opens_3 17 rfl rfl)
theorem dX1_opens_89 : decode cX1_opens 89 = .ok (.aload_n 2, 1) := dk_44 (dk_at dksX1_opens_3 18 rfl rfl)
theorem dX1_opens_90 : decode cX1_opens 90 = .ok (.invokevirtual 162, 3) := dk_182 0 162 (dk_at dksX1_opens_3 19 rfl rfl)
theorem dX1_opens_93 : decode cX1_opens 93 = .ok (.invokevirtual 152, 3) := dk_182 0 152 (dk_at dksX1_opens_4 0 rfl rfl)
theorem dX1_opens_96 : decode cX1_opens 96 = .ok (.checkcast 52, 3) := dk_192 0 52 (dk_at dksX1_opens_4 3 rfl rfl)
theorem dX1_opens_99 : decode cX1_opens 99 = .ok (.astore 4, 2) := dk_58 4 (dk_at dksX1_opens_4 6 rfl rfl)
theorem dX1_opens_101 : decode cX1_opens 101 = .ok (.aload_n 0, 1) := dk_42 (dk_at dksX1_opens_4 8 rfl rfl)
theorem dX1_opens_102 : decode cX1_opens 102 = .ok (.getfield 23, 3) := dk_180 0 23 (dk_at dksX1_opens_4 9 rfl rfl)
theorem dX1_opens_105 : decode cX1_opens 105 = .ok (.aload_n 2, 1) := dk_44 (dk_at dksX1_opens_4 12 rfl rfl)
theorem dX1_opens_106 : decode cX1_opens 106 = .ok (.getfield 138, 3) := dk_180 0 138 (dk_at dksX1_opens_4 13 rfl rfl)
theorem dX1_opens_109 : decode cX1_opens 109 = .ok (.iaload, 1) := dk_46 (dk_at dksX1_opens_4 16 rfl rfl)
theorem dX1_opens_110 : decode cX1_opens 110 = .ok (.ireturn, 1) := dk_172 (dk_at dksX1_opens_4 17 rfl rfl)
abbrev cX1_ofWalker : ByteArray := prog_4_method_22_code
def yX1_ofWalker : MethodName := ⟨RX1, "ofWalker", "(I)I"⟩
def dkwX1_ofWalker_4 : List UInt8 := [17, 252, 12, 172]
abbrev dktX1_ofWalker_4 : List UInt8 := dkwX1_ofWalker_4 ++ []
def dkwX1_ofWalker_3 : List UInt8 := [180, 0, 58, 167, 0, 24, 42, 180, 0, 23, 27, 5, 100, 46, 167, 0, 13, 42, 182, 0, 169, 167, 0, 6]
abbrev dktX1_ofWalker_3 : List UInt8 := dkwX1_ofWalker_3 ++ dktX1_ofWalker_4
def dkwX1_ofWalker_2 : List UInt8 := [42, 180, 0, 14, 182, 0, 156, 153, 0, 9, 17, 252, 9, 167, 0, 38, 42, 180, 0, 54, 167, 0, 31, 42]
abbrev dktX1_ofWalker_2 : List UInt8 := dkwX1_ofWalker_2 ++ dktX1_ofWalker_3
def dkwX1_ofWalker_1 : List UInt8 := [170, 0, 0, 0, 0, 0, 87, 0, 0, 0, 0, 0, 0, 0, 5, 0, 0, 0, 39, 0, 0, 0, 62, 0, 0, 0, 69, 0, 0, 0, 69, 0, 0, 0, 69, 0, 0, 0, 80]
abbrev dktX1_ofWalker_1 : List UInt8 := dkwX1_ofWalker_1 ++ dktX1_ofWalker_2
def dkwX1_ofWalker_0 : List UInt8 := [27]
abbrev dktX1_ofWalker_0 : List UInt8 := dkwX1_ofWalker_0 ++ dktX1_ofWalker_1
theorem dksX1_ofWalker_0 : cX1_ofWalker.data.toList.drop 0 = dktX1_ofWalker_0 := by decide +kernel
theorem dksX1_ofWalker_1 : cX1_ofWalker.data.toList.drop 1 = dktX1_ofWalker_1 := dk_seg dksX1_ofWalker_0 1 rfl rfl
theorem dksX1_ofWalker_2 : cX1_ofWalker.data.toList.drop 40 = dktX1_ofWalker_2 := dk_seg dksX1_ofWalker_1 39 rfl rfl
theorem dksX1_ofWalker_3 : cX1_ofWalker.data.toList.drop 64 = dktX1_ofWalker_3 := dk_seg dksX1_ofWalker_2 24 rfl rfl
theorem dksX1_ofWalker_4 : cX1_ofWalker.data.toList.drop 88 = dktX1_ofWalker_4 := dk_seg dksX1_ofWalker_3 24 rfl rfl
theorem dX1_ofWalker_0 : decode cX1_ofWalker 0 = .ok (.iload_n 1, 1) := dk_27 (dk_at dksX1_ofWalker_0 0 rfl rfl)
theorem dX1_ofWalker_1 : decode cX1_ofWalker 1 = .ok (.tableswitch 87 0 5 #[39, 62, 69, 69, 69, 80], 39) := by decide +kernel
theorem dX1_ofWalker_40 : decode cX1_ofWalker 40 = .ok (.aload_n 0, 1) := dk_42 (dk_at dksX1_ofWalker_2 0 rfl rfl)
theorem dX1_ofWalker_41 : decode cX1_ofWalker 41 = .ok (.getfield 14, 3) := dk_180 0 14 (dk_at dksX1_ofWalker_2 1 rfl rfl)
theorem dX1_ofWalker_44 : decode cX1_ofWalker 44 = .ok (.invokevirtual 156, 3) := dk_182 0 156 (dk_at dksX1_ofWalker_2 4 rfl rfl)
theorem dX1_ofWalker_47 : decode cX1_ofWalker 47 = .ok (.ifCond .eq 9, 3) := dk_153 0 9 (dk_at dksX1_ofWalker_2 7 rfl rfl)
theorem dX1_ofWalker_50 : decode cX1_ofWalker 50 = .ok (.sipush (-1015), 3) := dk_17 252 9 (dk_at dksX1_ofWalker_2 10 rfl rfl)
theorem dX1_ofWalker_53 : decode cX1_ofWalker 53 = .ok (.goto 38, 3) := dk_167 0 38 (dk_at dksX1_ofWalker_2 13 rfl rfl)
theorem dX1_ofWalker_56 : decode cX1_ofWalker 56 = .ok (.aload_n 0, 1) := dk_42 (dk_at dksX1_ofWalker_2 16 rfl rfl)
theorem dX1_ofWalker_57 : decode cX1_ofWalker 57 = .ok (.getfield 54, 3) := dk_180 0 54 (dk_at dksX1_ofWalker_2 17 rfl rfl)
theorem dX1_ofWalker_60 : decode cX1_ofWalker 60 = .ok (.goto 31, 3) := dk_167 0 31 (dk_at dksX1_ofWalker_2 20 rfl rfl)
theorem dX1_ofWalker_63 : decode cX1_ofWalker 63 = .ok (.aload_n 0, 1) := dk_42 (dk_at dksX1_ofWalker_2 23 rfl rfl)
theorem dX1_ofWalker_64 : decode cX1_ofWalker 64 = .ok (.getfield 58, 3) := dk_180 0 58 (dk_at dksX1_ofWalker_3 0 rfl rfl)
theorem dX1_ofWalker_67 : decode cX1_ofWalker 67 = .ok (.goto 24, 3) := dk_167 0 24 (dk_at dksX1_ofWalker_3 3 rfl rfl)
theorem dX1_ofWalker_70 : decode cX1_ofWalker 70 = .ok (.aload_n 0, 1) := dk_42 (dk_at dksX1_ofWalker_3 6 rfl rfl)
theorem dX1_ofWalker_71 : decode cX1_ofWalker 71 = .ok (.getfield 23, 3) := dk_180 0 23 (dk_at dksX1_ofWalker_3 7 rfl rfl)
theorem dX1_ofWalker_74 : decode cX1_ofWalker 74 = .ok (.iload_n 1, 1) := dk_27 (dk_at dksX1_ofWalker_3 10 rfl rfl)
theorem dX1_ofWalker_75 : decode cX1_ofWalker 75 = .ok (.iconst 2, 1) := dk_5 (dk_at dksX1_ofWalker_3 11 rfl rfl)
theorem dX1_ofWalker_76 : decode cX1_ofWalker 76 = .ok (.isub, 1) := dk_100 (dk_at dksX1_ofWalker_3 12 rfl rfl)
theorem dX1_ofWalker_77 : decode cX1_ofWalker 77 = .ok (.iaload, 1) := dk_46 (dk_at dksX1_ofWalker_3 13 rfl rfl)
theorem dX1_ofWalker_78 : decode cX1_ofWalker 78 = .ok (.goto 13, 3) := dk_167 0 13 (dk_at dksX1_ofWalker_3 14 rfl rfl)
theorem dX1_ofWalker_81 : decode cX1_ofWalker 81 = .ok (.aload_n 0, 1) := dk_42 (dk_at dksX1_ofWalker_3 17 rfl rfl)
theorem dX1_ofWalker_82 : decode cX1_ofWalker 82 = .ok (.invokevirtual 169, 3) := dk_182 0 169 (dk_at dksX1_ofWalker_3 18 rfl rfl)
theorem dX1_ofWalker_85 : decode cX1_ofWalker 85 = .ok (.goto 6, 3) := dk_167 0 6 (dk_at dksX1_ofWalker_3 21 rfl rfl)
theorem dX1_ofWalker_88 : decode cX1_ofWalker 88 = .ok (.sipush (-1012), 3) := dk_17 252 12 (dk_at dksX1_ofWalker_4 0 rfl rfl)
theorem dX1_ofWalker_91 : decode cX1_ofWalker 91 = .ok (.ireturn, 1) := dk_172 (dk_at dksX1_ofWalker_4 3 rfl rfl)
abbrev cX1_doorsHere : ByteArray := prog_4_method_21_code
def yX1_doorsHere : MethodName := ⟨RX1, "doorsHere", "()I"⟩
def dkwX1_doorsHere_2 : List UInt8 := [182, 0, 165, 153, 0, 7, 4, 167, 0, 4, 3, 96, 60, 167, 255, 210, 27, 172]
abbrev dktX1_doorsHere_2 : List UInt8 := dkwX1_doorsHere_2 ++ []
def dkwX1_doorsHere_1 : List UInt8 := [185, 0, 38, 1, 0, 192, 0, 52, 78, 27, 42, 42, 180, 0, 54, 182, 0, 81, 153, 0, 15, 42, 45]
abbrev dktX1_doorsHere_1 : List UInt8 := dkwX1_doorsHere_1 ++ dktX1_doorsHere_2
def dkwX1_doorsHere_0 : List UInt8 := [3, 60, 42, 180, 0, 20, 182, 0, 28, 77, 44, 185, 0, 32, 1, 0, 153, 0, 43, 44]
abbrev dktX1_doorsHere_0 : List UInt8 := dkwX1_doorsHere_0 ++ dktX1_doorsHere_1
theorem dksX1_doorsHere_0 : cX1_doorsHere.data.toList.drop 0 = dktX1_doorsHere_0 := by decide +kernel
theorem dksX1_doorsHere_1 : cX1_doorsHere.data.toList.drop 20 = dktX1_doorsHere_1 := dk_seg dksX1_doorsHere_0 20 rfl rfl
theorem dksX1_doorsHere_2 : cX1_doorsHere.data.toList.drop 43 = dktX1_doorsHere_2 := dk_seg dksX1_doorsHere_1 23 rfl rfl
theorem dX1_doorsHere_0 : decode cX1_doorsHere 0 = .ok (.iconst 0, 1) := dk_3 (dk_at dksX1_doorsHere_0 0 rfl rfl)
theorem dX1_doorsHere_1 : decode cX1_doorsHere 1 = .ok (.istore_n 1, 1) := dk_60 (dk_at dksX1_doorsHere_0 1 rfl rfl)
theorem dX1_doorsHere_2 : decode cX1_doorsHere 2 = .ok (.aload_n 0, 1) := dk_42 (dk_at dksX1_doorsHere_0 2 rfl rfl)
theorem dX1_doorsHere_3 : decode cX1_doorsHere 3 = .ok (.getfield 20, 3) := dk_180 0 20 (dk_at dksX1_doorsHere_0 3 rfl rfl)
theorem dX1_doorsHere_6 : decode cX1_doorsHere 6 = .ok (.invokevirtual 28, 3) := dk_182 0 28 (dk_at dksX1_doorsHere_0 6 rfl rfl)
theorem dX1_doorsHere_9 : decode cX1_doorsHere 9 = .ok (.astore_n 2, 1) := dk_77 (dk_at dksX1_doorsHere_0 9 rfl rfl)
theorem dX1_doorsHere_10 : decode cX1_doorsHere 10 = .ok (.aload_n 2, 1) := dk_44 (dk_at dksX1_doorsHere_0 10 rfl rfl)
theorem dX1_doorsHere_11 : decode cX1_doorsHere 11 = .ok (.invokeinterface 32 1, 5) := by decide +kernel
theorem dX1_doorsHere_16 : decode cX1_doorsHere 16 = .ok (.ifCond .eq 43, 3) := dk_153 0 43 (dk_at dksX1_doorsHere_0 16 rfl rfl)
theorem dX1_doorsHere_19 : decode cX1_doorsHere 19 = .ok (.aload_n 2, 1) := dk_44 (dk_at dksX1_doorsHere_0 19 rfl rfl)
theorem dX1_doorsHere_20 : decode cX1_doorsHere 20 = .ok (.invokeinterface 38 1, 5) := by decide +kernel
theorem dX1_doorsHere_25 : decode cX1_doorsHere 25 = .ok (.checkcast 52, 3) := dk_192 0 52 (dk_at dksX1_doorsHere_1 5 rfl rfl)
theorem dX1_doorsHere_28 : decode cX1_doorsHere 28 = .ok (.astore_n 3, 1) := dk_78 (dk_at dksX1_doorsHere_1 8 rfl rfl)
theorem dX1_doorsHere_29 : decode cX1_doorsHere 29 = .ok (.iload_n 1, 1) := dk_27 (dk_at dksX1_doorsHere_1 9 rfl rfl)
theorem dX1_doorsHere_30 : decode cX1_doorsHere 30 = .ok (.aload_n 0, 1) := dk_42 (dk_at dksX1_doorsHere_1 10 rfl rfl)
theorem dX1_doorsHere_31 : decode cX1_doorsHere 31 = .ok (.aload_n 0, 1) := dk_42 (dk_at dksX1_doorsHere_1 11 rfl rfl)
theorem dX1_doorsHere_32 : decode cX1_doorsHere 32 = .ok (.getfield 54, 3) := dk_180 0 54 (dk_at dksX1_doorsHere_1 12 rfl rfl)
theorem dX1_doorsHere_35 : decode cX1_doorsHere 35 = .ok (.invokevirtual 81, 3) := dk_182 0 81 (dk_at dksX1_doorsHere_1 15 rfl rfl)
theorem dX1_doorsHere_38 : decode cX1_doorsHere 38 = .ok (.ifCond .eq 15, 3) := dk_153 0 15 (dk_at dksX1_doorsHere_1 18 rfl rfl)
theorem dX1_doorsHere_41 : decode cX1_doorsHere 41 = .ok (.aload_n 0, 1) := dk_42 (dk_at dksX1_doorsHere_1 21 rfl rfl)
theorem dX1_doorsHere_42 : decode cX1_doorsHere 42 = .ok (.aload_n 3, 1) := dk_45 (dk_at dksX1_doorsHere_1 22 rfl rfl)
theorem dX1_doorsHere_43 : decode cX1_doorsHere 43 = .ok (.invokevirtual 165, 3) := dk_182 0 165 (dk_at dksX1_doorsHere_2 0 rfl rfl)
theorem dX1_doorsHere_46 : decode cX1_doorsHere 46 = .ok (.ifCond .eq 7, 3) := dk_153 0 7 (dk_at dksX1_doorsHere_2 3 rfl rfl)
theorem dX1_doorsHere_49 : decode cX1_doorsHere 49 = .ok (.iconst 1, 1) := dk_4 (dk_at dksX1_doorsHere_2 6 rfl rfl)
theorem dX1_doorsHere_50 : decode cX1_doorsHere 50 = .ok (.goto 4, 3) := dk_167 0 4 (dk_at dksX1_doorsHere_2 7 rfl rfl)
theorem dX1_doorsHere_53 : decode cX1_doorsHere 53 = .ok (.iconst 0, 1) := dk_3 (dk_at dksX1_doorsHere_2 10 rfl rfl)
theorem dX1_doorsHere_54 : decode cX1_doorsHere 54 = .ok (.iadd, 1) := dk_96 (dk_at dksX1_doorsHere_2 11 rfl rfl)
theorem dX1_doorsHere_55 : decode cX1_doorsHere 55 = .ok (.istore_n 1, 1) := dk_60 (dk_at dksX1_doorsHere_2 12 rfl rfl)
theorem dX1_doorsHere_56 : decode cX1_doorsHere 56 = .ok (.goto (-46), 3) := dk_167 255 210 (dk_at dksX1_doorsHere_2 13 rfl rfl)
theorem dX1_doorsHere_59 : decode cX1_doorsHere 59 = .ok (.iload_n 1, 1) := dk_27 (dk_at dksX1_doorsHere_2 16 rfl rfl)
theorem dX1_doorsHere_60 : decode cX1_doorsHere 60 = .ok (.ireturn, 1) := dk_172 (dk_at dksX1_doorsHere_2 17 rfl rfl)
abbrev cX1_canGo : ByteArray := prog_4_method_15_code
def yX1_canGo : MethodName := ⟨RX1, "canGo", "(LParityMaze$Door;)Z"⟩
def dkwX1_canGo_1 : List UInt8 := [182, 0, 131, 153, 0, 7, 4, 167, 0, 4, 3, 172]
abbrev dktX1_canGo_1 : List UInt8 := dkwX1_canGo_1 ++ []
def dkwX1_canGo_0 : List UInt8 := [43, 42, 180, 0, 54, 182, 0, 119, 153, 0, 25, 43, 180, 0, 124, 154, 0, 18, 43, 42, 182, 0, 128]
abbrev dktX1_canGo_0 : List UInt8 := dkwX1_canGo_0 ++ dktX1_canGo_1
theorem dksX1_canGo_0 : cX1_canGo.data.toList.drop 0 = dktX1_canGo_0 := by decide +kernel
theorem dksX1_canGo_1 : cX1_canGo.data.toList.drop 23 = dktX1_canGo_1 := dk_seg dksX1_canGo_0 23 rfl rfl
theorem dX1_canGo_0 : decode cX1_canGo 0 = .ok (.aload_n 1, 1) := dk_43 (dk_at dksX1_canGo_0 0 rfl rfl)
theorem dX1_canGo_1 : decode cX1_canGo 1 = .ok (.aload_n 0, 1) := dk_42 (dk_at dksX1_canGo_0 1 rfl rfl)
theorem dX1_canGo_2 : decode cX1_canGo 2 = .ok (.getfield 54, 3) := dk_180 0 54 (dk_at dksX1_canGo_0 2 rfl rfl)
theorem dX1_canGo_5 : decode cX1_canGo 5 = .ok (.invokevirtual 119, 3) := dk_182 0 119 (dk_at dksX1_canGo_0 5 rfl rfl)
theorem dX1_canGo_8 : decode cX1_canGo 8 = .ok (.ifCond .eq 25, 3) := dk_153 0 25 (dk_at dksX1_canGo_0 8 rfl rfl)
theorem dX1_canGo_11 : decode cX1_canGo 11 = .ok (.aload_n 1, 1) := dk_43 (dk_at dksX1_canGo_0 11 rfl rfl)
theorem dX1_canGo_12 : decode cX1_canGo 12 = .ok (.getfield 124, 3) := dk_180 0 124 (dk_at dksX1_canGo_0 12 rfl rfl)
theorem dX1_canGo_15 : decode cX1_canGo 15 = .ok (.ifCond .ne 18, 3) := dk_154 0 18 (dk_at dksX1_canGo_0 15 rfl rfl)
theorem dX1_canGo_18 : decode cX1_canGo 18 = .ok (.aload_n 1, 1) := dk_43 (dk_at dksX1_canGo_0 18 rfl rfl)
theorem dX1_canGo_19 : decode cX1_canGo 19 = .ok (.aload_n 0, 1) := dk_42 (dk_at dksX1_canGo_0 19 rfl rfl)
theorem dX1_canGo_20 : decode cX1_canGo 20 = .ok (.invokevirtual 128, 3) := dk_182 0 128 (dk_at dksX1_canGo_0 20 rfl rfl)
theorem dX1_canGo_23 : decode cX1_canGo 23 = .ok (.invokevirtual 131, 3) := dk_182 0 131 (dk_at dksX1_canGo_1 0 rfl rfl)
theorem dX1_canGo_26 : decode cX1_canGo 26 = .ok (.ifCond .eq 7, 3) := dk_153 0 7 (dk_at dksX1_canGo_1 3 rfl rfl)
theorem dX1_canGo_29 : decode cX1_canGo 29 = .ok (.iconst 1, 1) := dk_4 (dk_at dksX1_canGo_1 6 rfl rfl)
theorem dX1_canGo_30 : decode cX1_canGo 30 = .ok (.goto 4, 3) := dk_167 0 4 (dk_at dksX1_canGo_1 7 rfl rfl)
theorem dX1_canGo_33 : decode cX1_canGo 33 = .ok (.iconst 0, 1) := dk_3 (dk_at dksX1_canGo_1 10 rfl rfl)
theorem dX1_canGo_34 : decode cX1_canGo 34 = .ok (.ireturn, 1) := dk_172 (dk_at dksX1_canGo_1 11 rfl rfl)
abbrev cX1_wayAgain : ByteArray := prog_4_method_28_code
def yX1_wayAgain : MethodName := ⟨RX1, "wayAgain", "(III)I"⟩
def dkwX1_wayAgain_6 : List UInt8 := [54, 6, 21, 6, 17, 39, 16, 160, 0, 9, 17, 252, 9, 167, 0, 5, 21, 6, 172]
abbrev dktX1_wayAgain_6 : List UInt8 := dkwX1_wayAgain_6 ++ []
def dkwX1_wayAgain_5 : List UInt8 := [167, 255, 202, 167, 255, 177, 25, 4, 5, 28, 104, 46, 25, 4, 5, 28, 104, 4, 96, 46, 184, 0, 231]
abbrev dktX1_wayAgain_5 : List UInt8 := dkwX1_wayAgain_5 ++ dktX1_wayAgain_6
def dkwX1_wayAgain_4 : List UInt8 := [180, 0, 246, 182, 0, 249, 42, 25, 4, 25, 7, 25, 7, 180, 0, 253, 182, 0, 249, 128, 128, 54, 5]
abbrev dktX1_wayAgain_4 : List UInt8 := dkwX1_wayAgain_4 ++ dktX1_wayAgain_5
def dkwX1_wayAgain_3 : List UInt8 := [153, 0, 50, 25, 6, 185, 0, 38, 1, 0, 192, 0, 52, 58, 7, 21, 5, 42, 25, 4, 25, 7, 25, 7]
abbrev dktX1_wayAgain_3 : List UInt8 := dkwX1_wayAgain_3 ++ dktX1_wayAgain_4
def dkwX1_wayAgain_2 : List UInt8 := [42, 25, 4, 182, 0, 242, 54, 5, 42, 180, 0, 20, 182, 0, 28, 58, 6, 25, 6, 185, 0, 32, 1, 0]
abbrev dktX1_wayAgain_2 : List UInt8 := dkwX1_wayAgain_2 ++ dktX1_wayAgain_3
def dkwX1_wayAgain_1 : List UInt8 := [79, 132, 5, 1, 167, 255, 237, 25, 4, 5, 27, 104, 29, 96, 3, 79, 4, 54, 5, 21, 5, 153, 0, 80]
abbrev dktX1_wayAgain_1 : List UInt8 := dkwX1_wayAgain_1 ++ dktX1_wayAgain_2
def dkwX1_wayAgain_0 : List UInt8 := [16, 20, 188, 10, 58, 4, 3, 54, 5, 21, 5, 25, 4, 190, 162, 0, 17, 25, 4, 21, 5, 17, 39, 16]
abbrev dktX1_wayAgain_0 : List UInt8 := dkwX1_wayAgain_0 ++ dktX1_wayAgain_1
theorem dksX1_wayAgain_0 : cX1_wayAgain.data.toList.drop 0 = dktX1_wayAgain_0 := by decide +kernel
theorem dksX1_wayAgain_1 : cX1_wayAgain.data.toList.drop 24 = dktX1_wayAgain_1 := dk_seg dksX1_wayAgain_0 24 rfl rfl
theorem dksX1_wayAgain_2 : cX1_wayAgain.data.toList.drop 48 = dktX1_wayAgain_2 := dk_seg dksX1_wayAgain_1 24 rfl rfl
theorem dksX1_wayAgain_3 : cX1_wayAgain.data.toList.drop 72 = dktX1_wayAgain_3 := dk_seg dksX1_wayAgain_2 24 rfl rfl
theorem dksX1_wayAgain_4 : cX1_wayAgain.data.toList.drop 96 = dktX1_wayAgain_4 := dk_seg dksX1_wayAgain_3 24 rfl rfl
theorem dksX1_wayAgain_5 : cX1_wayAgain.data.toList.drop 119 = dktX1_wayAgain_5 := dk_seg dksX1_wayAgain_4 23 rfl rfl
theorem dksX1_wayAgain_6 : cX1_wayAgain.data.toList.drop 142 = dktX1_wayAgain_6 := dk_seg dksX1_wayAgain_5 23 rfl rfl
theorem dX1_wayAgain_0 : decode cX1_wayAgain 0 = .ok (.bipush 20, 2) := dk_16 20 (dk_at dksX1_wayAgain_0 0 rfl rfl)
theorem dX1_wayAgain_2 : decode cX1_wayAgain 2 = .ok (.newarray .int, 2) := dk_188_10 (dk_at dksX1_wayAgain_0 2 rfl rfl)
theorem dX1_wayAgain_4 : decode cX1_wayAgain 4 = .ok (.astore 4, 2) := dk_58 4 (dk_at dksX1_wayAgain_0 4 rfl rfl)
theorem dX1_wayAgain_6 : decode cX1_wayAgain 6 = .ok (.iconst 0, 1) := dk_3 (dk_at dksX1_wayAgain_0 6 rfl rfl)
theorem dX1_wayAgain_7 : decode cX1_wayAgain 7 = .ok (.istore 5, 2) := dk_54 5 (dk_at dksX1_wayAgain_0 7 rfl rfl)
theorem dX1_wayAgain_9 : decode cX1_wayAgain 9 = .ok (.iload 5, 2) := dk_21 5 (dk_at dksX1_wayAgain_0 9 rfl rfl)
theorem dX1_wayAgain_11 : decode cX1_wayAgain 11 = .ok (.aload 4, 2) := dk_25 4 (dk_at dksX1_wayAgain_0 11 rfl rfl)
theorem dX1_wayAgain_13 : decode cX1_wayAgain 13 = .ok (.arraylength, 1) := dk_190 (dk_at dksX1_wayAgain_0 13 rfl rfl)
theorem dX1_wayAgain_14 : decode cX1_wayAgain 14 = .ok (.if_icmp .ge 17, 3) := dk_162 0 17 (dk_at dksX1_wayAgain_0 14 rfl rfl)
theorem dX1_wayAgain_17 : decode cX1_wayAgain 17 = .ok (.aload 4, 2) := dk_25 4 (dk_at dksX1_wayAgain_0 17 rfl rfl)
theorem dX1_wayAgain_19 : decode cX1_wayAgain 19 = .ok (.iload 5, 2) := dk_21 5 (dk_at dksX1_wayAgain_0 19 rfl rfl)
theorem dX1_wayAgain_21 : decode cX1_wayAgain 21 = .ok (.sipush 10000, 3) := dk_17 39 16 (dk_at dksX1_wayAgain_0 21 rfl rfl)
theorem dX1_wayAgain_24 : decode cX1_wayAgain 24 = .ok (.iastore, 1) := dk_79 (dk_at dksX1_wayAgain_1 0 rfl rfl)
theorem dX1_wayAgain_25 : decode cX1_wayAgain 25 = .ok (.iinc 5 1, 3) := dk_132 5 1 (dk_at dksX1_wayAgain_1 1 rfl rfl)
theorem dX1_wayAgain_28 : decode cX1_wayAgain 28 = .ok (.goto (-19), 3) := dk_167 255 237 (dk_at dksX1_wayAgain_1 4 rfl rfl)
theorem dX1_wayAgain_31 : decode cX1_wayAgain 31 = .ok (.aload 4, 2) := dk_25 4 (dk_at dksX1_wayAgain_1 7 rfl rfl)
theorem dX1_wayAgain_33 : decode cX1_wayAgain 33 = .ok (.iconst 2, 1) := dk_5 (dk_at dksX1_wayAgain_1 9 rfl rfl)
theorem dX1_wayAgain_34 : decode cX1_wayAgain 34 = .ok (.iload_n 1, 1) := dk_27 (dk_at dksX1_wayAgain_1 10 rfl rfl)
theorem dX1_wayAgain_35 : decode cX1_wayAgain 35 = .ok (.imul, 1) := dk_104 (dk_at dksX1_wayAgain_1 11 rfl rfl)
theorem dX1_wayAgain_36 : decode cX1_wayAgain 36 = .ok (.iload_n 3, 1) := dk_29 (dk_at dksX1_wayAgain_1 12 rfl rfl)
theorem dX1_wayAgain_37 : decode cX1_wayAgain 37 = .ok (.iadd, 1) := dk_96 (dk_at dksX1_wayAgain_1 13 rfl rfl)
theorem dX1_wayAgain_38 : decode cX1_wayAgain 38 = .ok (.iconst 0, 1) := dk_3 (dk_at dksX1_wayAgain_1 14 rfl rfl)
theorem dX1_wayAgain_39 : decode cX1_wayAgain 39 = .ok (.iastore, 1) := dk_79 (dk_at dksX1_wayAgain_1 15 rfl rfl)
theorem dX1_wayAgain_40 : decode cX1_wayAgain 40 = .ok (.iconst 1, 1) := dk_4 (dk_at dksX1_wayAgain_1 16 rfl rfl)
theorem dX1_wayAgain_41 : decode cX1_wayAgain 41 = .ok (.istore 5, 2) := dk_54 5 (dk_at dksX1_wayAgain_1 17 rfl rfl)
theorem dX1_wayAgain_43 : decode cX1_wayAgain 43 = .ok (.iload 5, 2) := dk_21 5 (dk_at dksX1_wayAgain_1 19 rfl rfl)
theorem dX1_wayAgain_45 : decode cX1_wayAgain 45 = .ok (.ifCond .eq 80, 3) := dk_153 0 80 (dk_at dksX1_wayAgain_1 21 rfl rfl)
theorem dX1_wayAgain_48 : decode cX1_wayAgain 48 = .ok (.aload_n 0, 1) := dk_42 (dk_at dksX1_wayAgain_2 0 rfl rfl)
theorem dX1_wayAgain_49 : decode cX1_wayAgain 49 = .ok (.aload 4, 2) := dk_25 4 (dk_at dksX1_wayAgain_2 1 rfl rfl)
theorem dX1_wayAgain_51 : decode cX1_wayAgain 51 = .ok (.invokevirtual 242, 3) := dk_182 0 242 (dk_at dksX1_wayAgain_2 3 rfl rfl)
theorem dX1_wayAgain_54 : decode cX1_wayAgain 54 = .ok (.istore 5, 2) := dk_54 5 (dk_at dksX1_wayAgain_2 6 rfl rfl)
theorem dX1_wayAgain_56 : decode cX1_wayAgain 56 = .ok (.aload_n 0, 1) := dk_42 (dk_at dksX1_wayAgain_2 8 rfl rfl)
theorem dX1_wayAgain_57 : decode cX1_wayAgain 57 = .ok (.getfield 20, 3) := dk_180 0 20 (dk_at dksX1_wayAgain_2 9 rfl rfl)
theorem dX1_wayAgain_60 : decode cX1_wayAgain 60 = .ok (.invokevirtual 28, 3) := dk_182 0 28 (dk_at dksX1_wayAgain_2 12 rfl rfl)
theorem dX1_wayAgain_63 : decode cX1_wayAgain 63 = .ok (.astore 6, 2) := dk_58 6 (dk_at dksX1_wayAgain_2 15 rfl rfl)
theorem dX1_wayAgain_65 : decode cX1_wayAgain 65 = .ok (.aload 6, 2) := dk_25 6 (dk_at dksX1_wayAgain_2 17 rfl rfl)
theorem dX1_wayAgain_67 : decode cX1_wayAgain 67 = .ok (.invokeinterface 32 1, 5) := by decide +kernel
theorem dX1_wayAgain_72 : decode cX1_wayAgain 72 = .ok (.ifCond .eq 50, 3) := dk_153 0 50 (dk_at dksX1_wayAgain_3 0 rfl rfl)
theorem dX1_wayAgain_75 : decode cX1_wayAgain 75 = .ok (.aload 6, 2) := dk_25 6 (dk_at dksX1_wayAgain_3 3 rfl rfl)
theorem dX1_wayAgain_77 : decode cX1_wayAgain 77 = .ok (.invokeinterface 38 1, 5) := by decide +kernel
theorem dX1_wayAgain_82 : decode cX1_wayAgain 82 = .ok (.checkcast 52, 3) := dk_192 0 52 (dk_at dksX1_wayAgain_3 10 rfl rfl)
theorem dX1_wayAgain_85 : decode cX1_wayAgain 85 = .ok (.astore 7, 2) := dk_58 7 (dk_at dksX1_wayAgain_3 13 rfl rfl)
theorem dX1_wayAgain_87 : decode cX1_wayAgain 87 = .ok (.iload 5, 2) := dk_21 5 (dk_at dksX1_wayAgain_3 15 rfl rfl)
theorem dX1_wayAgain_89 : decode cX1_wayAgain 89 = .ok (.aload_n 0, 1) := dk_42 (dk_at dksX1_wayAgain_3 17 rfl rfl)
theorem dX1_wayAgain_90 : decode cX1_wayAgain 90 = .ok (.aload 4, 2) := dk_25 4 (dk_at dksX1_wayAgain_3 18 rfl rfl)
theorem dX1_wayAgain_92 : decode cX1_wayAgain 92 = .ok (.aload 7, 2) := dk_25 7 (dk_at dksX1_wayAgain_3 20 rfl rfl)
theorem dX1_wayAgain_94 : decode cX1_wayAgain 94 = .ok (.aload 7, 2) := dk_25 7 (dk_at dksX1_wayAgain_3 22 rfl rfl)
theorem dX1_wayAgain_96 : decode cX1_wayAgain 96 = .ok (.getfield 246, 3) := dk_180 0 246 (dk_at dksX1_wayAgain_4 0 rfl rfl)
theorem dX1_wayAgain_99 : decode cX1_wayAgain 99 = .ok (.invokevirtual 249, 3) := dk_182 0 249 (dk_at dksX1_wayAgain_4 3 rfl rfl)
theorem dX1_wayAgain_102 : decode cX1_wayAgain 102 = .ok (.aload_n 0, 1) := dk_42 (dk_at dksX1_wayAgain_4 6 rfl rfl)
theorem dX1_wayAgain_103 : decode cX1_wayAgain 103 = .ok (.aload 4, 2) := dk_25 4 (dk_at dksX1_wayAgain_4 7 rfl rfl)
theorem dX1_wayAgain_105 : decode cX1_wayAgain 105 = .ok (.aload 7, 2) := dk_25 7 (dk_at dksX1_wayAgain_4 9 rfl rfl)
theorem dX1_wayAgain_107 : decode cX1_wayAgain 107 = .ok (.aload 7, 2) := dk_25 7 (dk_at dksX1_wayAgain_4 11 rfl rfl)
theorem dX1_wayAgain_109 : decode cX1_wayAgain 109 = .ok (.getfield 253, 3) := dk_180 0 253 (dk_at dksX1_wayAgain_4 13 rfl rfl)
theorem dX1_wayAgain_112 : decode cX1_wayAgain 112 = .ok (.invokevirtual 249, 3) := dk_182 0 249 (dk_at dksX1_wayAgain_4 16 rfl rfl)
theorem dX1_wayAgain_115 : decode cX1_wayAgain 115 = .ok (.ior, 1) := dk_128 (dk_at dksX1_wayAgain_4 19 rfl rfl)
theorem dX1_wayAgain_116 : decode cX1_wayAgain 116 = .ok (.ior, 1) := dk_128 (dk_at dksX1_wayAgain_4 20 rfl rfl)
theorem dX1_wayAgain_117 : decode cX1_wayAgain 117 = .ok (.istore 5, 2) := dk_54 5 (dk_at dksX1_wayAgain_4 21 rfl rfl)
theorem dX1_wayAgain_119 : decode cX1_wayAgain 119 = .ok (.goto (-54), 3) := dk_167 255 202 (dk_at dksX1_wayAgain_5 0 rfl rfl)
theorem dX1_wayAgain_122 : decode cX1_wayAgain 122 = .ok (.goto (-79), 3) := dk_167 255 177 (dk_at dksX1_wayAgain_5 3 rfl rfl)
theorem dX1_wayAgain_125 : decode cX1_wayAgain 125 = .ok (.aload 4, 2) := dk_25 4 (dk_at dksX1_wayAgain_5 6 rfl rfl)
theorem dX1_wayAgain_127 : decode cX1_wayAgain 127 = .ok (.iconst 2, 1) := dk_5 (dk_at dksX1_wayAgain_5 8 rfl rfl)
theorem dX1_wayAgain_128 : decode cX1_wayAgain 128 = .ok (.iload_n 2, 1) := dk_28 (dk_at dksX1_wayAgain_5 9 rfl rfl)
theorem dX1_wayAgain_129 : decode cX1_wayAgain 129 = .ok (.imul, 1) := dk_104 (dk_at dksX1_wayAgain_5 10 rfl rfl)
theorem dX1_wayAgain_130 : decode cX1_wayAgain 130 = .ok (.iaload, 1) := dk_46 (dk_at dksX1_wayAgain_5 11 rfl rfl)
theorem dX1_wayAgain_131 : decode cX1_wayAgain 131 = .ok (.aload 4, 2) := dk_25 4 (dk_at dksX1_wayAgain_5 12 rfl rfl)
theorem dX1_wayAgain_133 : decode cX1_wayAgain 133 = .ok (.iconst 2, 1) := dk_5 (dk_at dksX1_wayAgain_5 14 rfl rfl)
theorem dX1_wayAgain_134 : decode cX1_wayAgain 134 = .ok (.iload_n 2, 1) := dk_28 (dk_at dksX1_wayAgain_5 15 rfl rfl)
theorem dX1_wayAgain_135 : decode cX1_wayAgain 135 = .ok (.imul, 1) := dk_104 (dk_at dksX1_wayAgain_5 16 rfl rfl)
theorem dX1_wayAgain_136 : decode cX1_wayAgain 136 = .ok (.iconst 1, 1) := dk_4 (dk_at dksX1_wayAgain_5 17 rfl rfl)
theorem dX1_wayAgain_137 : decode cX1_wayAgain 137 = .ok (.iadd, 1) := dk_96 (dk_at dksX1_wayAgain_5 18 rfl rfl)
theorem dX1_wayAgain_138 : decode cX1_wayAgain 138 = .ok (.iaload, 1) := dk_46 (dk_at dksX1_wayAgain_5 19 rfl rfl)
theorem dX1_wayAgain_139 : decode cX1_wayAgain 139 = .ok (.invokestatic 231, 3) := dk_184 0 231 (dk_at dksX1_wayAgain_5 20 rfl rfl)
theorem dX1_wayAgain_142 : decode cX1_wayAgain 142 = .ok (.istore 6, 2) := dk_54 6 (dk_at dksX1_wayAgain_6 0 rfl rfl)
theorem dX1_wayAgain_144 : decode cX1_wayAgain 144 = .ok (.iload 6, 2) := dk_21 6 (dk_at dksX1_wayAgain_6 2 rfl rfl)
theorem dX1_wayAgain_146 : decode cX1_wayAgain 146 = .ok (.sipush 10000, 3) := dk_17 39 16 (dk_at dksX1_wayAgain_6 4 rfl rfl)
theorem dX1_wayAgain_149 : decode cX1_wayAgain 149 = .ok (.if_icmp .ne 9, 3) := dk_160 0 9 (dk_at dksX1_wayAgain_6 7 rfl rfl)
theorem dX1_wayAgain_152 : decode cX1_wayAgain 152 = .ok (.sipush (-1015), 3) := dk_17 252 9 (dk_at dksX1_wayAgain_6 10 rfl rfl)
theorem dX1_wayAgain_155 : decode cX1_wayAgain 155 = .ok (.goto 5, 3) := dk_167 0 5 (dk_at dksX1_wayAgain_6 13 rfl rfl)
theorem dX1_wayAgain_158 : decode cX1_wayAgain 158 = .ok (.iload 6, 2) := dk_21 6 (dk_at dksX1_wayAgain_6 16 rfl rfl)
theorem dX1_wayAgain_160 : decode cX1_wayAgain 160 = .ok (.ireturn, 1) := dk_172 (dk_at dksX1_wayAgain_6 18 rfl rfl)
abbrev cX1_waits : ByteArray := prog_4_method_30_code
def yX1_waits : MethodName := ⟨RX1, "waits", "([I)Z"⟩
def dkwX1_waits_2 : List UInt8 := [28, 172]
abbrev dktX1_waits_2 : List UInt8 := dkwX1_waits_2 ++ []
def dkwX1_waits_1 : List UInt8 := [43, 29, 46, 4, 96, 184, 1, 0, 153, 0, 7, 4, 167, 0, 4, 3, 128, 61, 132, 3, 1, 167, 255, 215]
abbrev dktX1_waits_1 : List UInt8 := dkwX1_waits_1 ++ dktX1_waits_2
def dkwX1_waits_0 : List UInt8 := [3, 61, 3, 62, 29, 43, 190, 162, 0, 41, 28, 43, 29, 46, 17, 39, 16, 162, 0, 22, 43, 29, 4, 130]
abbrev dktX1_waits_0 : List UInt8 := dkwX1_waits_0 ++ dktX1_waits_1
theorem dksX1_waits_0 : cX1_waits.data.toList.drop 0 = dktX1_waits_0 := by decide +kernel
theorem dksX1_waits_1 : cX1_waits.data.toList.drop 24 = dktX1_waits_1 := dk_seg dksX1_waits_0 24 rfl rfl
theorem dksX1_waits_2 : cX1_waits.data.toList.drop 48 = dktX1_waits_2 := dk_seg dksX1_waits_1 24 rfl rfl
theorem dX1_waits_0 : decode cX1_waits 0 = .ok (.iconst 0, 1) := dk_3 (dk_at dksX1_waits_0 0 rfl rfl)
theorem dX1_waits_1 : decode cX1_waits 1 = .ok (.istore_n 2, 1) := dk_61 (dk_at dksX1_waits_0 1 rfl rfl)
theorem dX1_waits_2 : decode cX1_waits 2 = .ok (.iconst 0, 1) := dk_3 (dk_at dksX1_waits_0 2 rfl rfl)
theorem dX1_waits_3 : decode cX1_waits 3 = .ok (.istore_n 3, 1) := dk_62 (dk_at dksX1_waits_0 3 rfl rfl)
theorem dX1_waits_4 : decode cX1_waits 4 = .ok (.iload_n 3, 1) := dk_29 (dk_at dksX1_waits_0 4 rfl rfl)
theorem dX1_waits_5 : decode cX1_waits 5 = .ok (.aload_n 1, 1) := dk_43 (dk_at dksX1_waits_0 5 rfl rfl)
theorem dX1_waits_6 : decode cX1_waits 6 = .ok (.arraylength, 1) := dk_190 (dk_at dksX1_waits_0 6 rfl rfl)
theorem dX1_waits_7 : decode cX1_waits 7 = .ok (.if_icmp .ge 41, 3) := dk_162 0 41 (dk_at dksX1_waits_0 7 rfl rfl)
theorem dX1_waits_10 : decode cX1_waits 10 = .ok (.iload_n 2, 1) := dk_28 (dk_at dksX1_waits_0 10 rfl rfl)
theorem dX1_waits_11 : decode cX1_waits 11 = .ok (.aload_n 1, 1) := dk_43 (dk_at dksX1_waits_0 11 rfl rfl)
theorem dX1_waits_12 : decode cX1_waits 12 = .ok (.iload_n 3, 1) := dk_29 (dk_at dksX1_waits_0 12 rfl rfl)
theorem dX1_waits_13 : decode cX1_waits 13 = .ok (.iaload, 1) := dk_46 (dk_at dksX1_waits_0 13 rfl rfl)
theorem dX1_waits_14 : decode cX1_waits 14 = .ok (.sipush 10000, 3) := dk_17 39 16 (dk_at dksX1_waits_0 14 rfl rfl)
theorem dX1_waits_17 : decode cX1_waits 17 = .ok (.if_icmp .ge 22, 3) := dk_162 0 22 (dk_at dksX1_waits_0 17 rfl rfl)
theorem dX1_waits_20 : decode cX1_waits 20 = .ok (.aload_n 1, 1) := dk_43 (dk_at dksX1_waits_0 20 rfl rfl)
theorem dX1_waits_21 : decode cX1_waits 21 = .ok (.iload_n 3, 1) := dk_29 (dk_at dksX1_waits_0 21 rfl rfl)
theorem dX1_waits_22 : decode cX1_waits 22 = .ok (.iconst 1, 1) := dk_4 (dk_at dksX1_waits_0 22 rfl rfl)
theorem dX1_waits_23 : decode cX1_waits 23 = .ok (.ixor, 1) := dk_130 (dk_at dksX1_waits_0 23 rfl rfl)
theorem dX1_waits_24 : decode cX1_waits 24 = .ok (.aload_n 1, 1) := dk_43 (dk_at dksX1_waits_1 0 rfl rfl)
theorem dX1_waits_25 : decode cX1_waits 25 = .ok (.iload_n 3, 1) := dk_29 (dk_at dksX1_waits_1 1 rfl rfl)
theorem dX1_waits_26 : decode cX1_waits 26 = .ok (.iaload, 1) := dk_46 (dk_at dksX1_waits_1 2 rfl rfl)
theorem dX1_waits_27 : decode cX1_waits 27 = .ok (.iconst 1, 1) := dk_4 (dk_at dksX1_waits_1 3 rfl rfl)
theorem dX1_waits_28 : decode cX1_waits 28 = .ok (.iadd, 1) := dk_96 (dk_at dksX1_waits_1 4 rfl rfl)
theorem dX1_waits_29 : decode cX1_waits 29 = .ok (.invokestatic 256, 3) := dk_184 1 0 (dk_at dksX1_waits_1 5 rfl rfl)
theorem dX1_waits_32 : decode cX1_waits 32 = .ok (.ifCond .eq 7, 3) := dk_153 0 7 (dk_at dksX1_waits_1 8 rfl rfl)
theorem dX1_waits_35 : decode cX1_waits 35 = .ok (.iconst 1, 1) := dk_4 (dk_at dksX1_waits_1 11 rfl rfl)
theorem dX1_waits_36 : decode cX1_waits 36 = .ok (.goto 4, 3) := dk_167 0 4 (dk_at dksX1_waits_1 12 rfl rfl)
theorem dX1_waits_39 : decode cX1_waits 39 = .ok (.iconst 0, 1) := dk_3 (dk_at dksX1_waits_1 15 rfl rfl)
theorem dX1_waits_40 : decode cX1_waits 40 = .ok (.ior, 1) := dk_128 (dk_at dksX1_waits_1 16 rfl rfl)
theorem dX1_waits_41 : decode cX1_waits 41 = .ok (.istore_n 2, 1) := dk_61 (dk_at dksX1_waits_1 17 rfl rfl)
theorem dX1_waits_42 : decode cX1_waits 42 = .ok (.iinc 3 1, 3) := dk_132 3 1 (dk_at dksX1_waits_1 18 rfl rfl)
theorem dX1_waits_45 : decode cX1_waits 45 = .ok (.goto (-41), 3) := dk_167 255 215 (dk_at dksX1_waits_1 21 rfl rfl)
theorem dX1_waits_48 : decode cX1_waits 48 = .ok (.iload_n 2, 1) := dk_28 (dk_at dksX1_waits_2 0 rfl rfl)
theorem dX1_waits_49 : decode cX1_waits 49 = .ok (.ireturn, 1) := dk_172 (dk_at dksX1_waits_2 1 rfl rfl)
abbrev cX1_isLowered : ByteArray := prog_4_method_29_code
def yX1_isLowered : MethodName := ⟨RX1, "isLowered", "([III)Z"⟩
def dkwX1_isLowered_1 : List UInt8 := [172]
abbrev dktX1_isLowered_1 : List UInt8 := dkwX1_isLowered_1 ++ []
def dkwX1_isLowered_0 : List UInt8 := [28, 42, 27, 46, 162, 0, 7, 4, 167, 0, 4, 3, 62, 42, 27, 42, 27, 46, 28, 184, 0, 231, 79, 29]
abbrev dktX1_isLowered_0 : List UInt8 := dkwX1_isLowered_0 ++ dktX1_isLowered_1
theorem dksX1_isLowered_0 : cX1_isLowered.data.toList.drop 0 = dktX1_isLowered_0 := by decide +kernel
theorem dksX1_isLowered_1 : cX1_isLowered.data.toList.drop 24 = dktX1_isLowered_1 := dk_seg dksX1_isLowered_0 24 rfl rfl
theorem dX1_isLowered_0 : decode cX1_isLowered 0 = .ok (.iload_n 2, 1) := dk_28 (dk_at dksX1_isLowered_0 0 rfl rfl)
theorem dX1_isLowered_1 : decode cX1_isLowered 1 = .ok (.aload_n 0, 1) := dk_42 (dk_at dksX1_isLowered_0 1 rfl rfl)
theorem dX1_isLowered_2 : decode cX1_isLowered 2 = .ok (.iload_n 1, 1) := dk_27 (dk_at dksX1_isLowered_0 2 rfl rfl)
theorem dX1_isLowered_3 : decode cX1_isLowered 3 = .ok (.iaload, 1) := dk_46 (dk_at dksX1_isLowered_0 3 rfl rfl)
theorem dX1_isLowered_4 : decode cX1_isLowered 4 = .ok (.if_icmp .ge 7, 3) := dk_162 0 7 (dk_at dksX1_isLowered_0 4 rfl rfl)
theorem dX1_isLowered_7 : decode cX1_isLowered 7 = .ok (.iconst 1, 1) := dk_4 (dk_at dksX1_isLowered_0 7 rfl rfl)
theorem dX1_isLowered_8 : decode cX1_isLowered 8 = .ok (.goto 4, 3) := dk_167 0 4 (dk_at dksX1_isLowered_0 8 rfl rfl)
theorem dX1_isLowered_11 : decode cX1_isLowered 11 = .ok (.iconst 0, 1) := dk_3 (dk_at dksX1_isLowered_0 11 rfl rfl)
theorem dX1_isLowered_12 : decode cX1_isLowered 12 = .ok (.istore_n 3, 1) := dk_62 (dk_at dksX1_isLowered_0 12 rfl rfl)
theorem dX1_isLowered_13 : decode cX1_isLowered 13 = .ok (.aload_n 0, 1) := dk_42 (dk_at dksX1_isLowered_0 13 rfl rfl)
theorem dX1_isLowered_14 : decode cX1_isLowered 14 = .ok (.iload_n 1, 1) := dk_27 (dk_at dksX1_isLowered_0 14 rfl rfl)
theorem dX1_isLowered_15 : decode cX1_isLowered 15 = .ok (.aload_n 0, 1) := dk_42 (dk_at dksX1_isLowered_0 15 rfl rfl)
theorem dX1_isLowered_16 : decode cX1_isLowered 16 = .ok (.iload_n 1, 1) := dk_27 (dk_at dksX1_isLowered_0 16 rfl rfl)
theorem dX1_isLowered_17 : decode cX1_isLowered 17 = .ok (.iaload, 1) := dk_46 (dk_at dksX1_isLowered_0 17 rfl rfl)
theorem dX1_isLowered_18 : decode cX1_isLowered 18 = .ok (.iload_n 2, 1) := dk_28 (dk_at dksX1_isLowered_0 18 rfl rfl)
theorem dX1_isLowered_19 : decode cX1_isLowered 19 = .ok (.invokestatic 231, 3) := dk_184 0 231 (dk_at dksX1_isLowered_0 19 rfl rfl)
theorem dX1_isLowered_22 : decode cX1_isLowered 22 = .ok (.iastore, 1) := dk_79 (dk_at dksX1_isLowered_0 22 rfl rfl)
theorem dX1_isLowered_23 : decode cX1_isLowered 23 = .ok (.iload_n 3, 1) := dk_29 (dk_at dksX1_isLowered_0 23 rfl rfl)
theorem dX1_isLowered_24 : decode cX1_isLowered 24 = .ok (.ireturn, 1) := dk_172 (dk_at dksX1_isLowered_1 0 rfl rfl)
abbrev cX1_lowers : ByteArray := prog_4_method_31_code
def yX1_lowers : MethodName := ⟨RX1, "lowers", "([ILParityMaze$Door;I)Z"⟩
def dkwX1_lowers_4 : List UInt8 := [132, 6, 1, 167, 255, 181, 21, 4, 172]
abbrev dktX1_lowers_4 : List UInt8 := dkwX1_lowers_4 ++ []
def dkwX1_lowers_3 : List UInt8 := [182, 0, 145, 104, 21, 6, 21, 5, 96, 5, 112, 96, 21, 7, 21, 5, 96, 184, 1, 0, 128, 54, 4]
abbrev dktX1_lowers_3 : List UInt8 := dkwX1_lowers_3 ++ dktX1_lowers_4
def dkwX1_lowers_2 : List UInt8 := [180, 0, 124, 154, 0, 44, 44, 21, 6, 21, 5, 96, 182, 0, 131, 153, 0, 32, 21, 4, 43, 5, 44, 29]
abbrev dktX1_lowers_2 : List UInt8 := dkwX1_lowers_2 ++ dktX1_lowers_3
def dkwX1_lowers_1 : List UInt8 := [5, 162, 0, 75, 43, 5, 29, 104, 21, 6, 96, 46, 54, 7, 21, 7, 17, 39, 16, 162, 0, 51, 44]
abbrev dktX1_lowers_1 : List UInt8 := dkwX1_lowers_1 ++ dktX1_lowers_2
def dkwX1_lowers_0 : List UInt8 := [3, 54, 4, 42, 180, 0, 14, 29, 182, 0, 90, 192, 0, 42, 182, 0, 122, 54, 5, 3, 54, 6, 21, 6]
abbrev dktX1_lowers_0 : List UInt8 := dkwX1_lowers_0 ++ dktX1_lowers_1
theorem dksX1_lowers_0 : cX1_lowers.data.toList.drop 0 = dktX1_lowers_0 := by decide +kernel
theorem dksX1_lowers_1 : cX1_lowers.data.toList.drop 24 = dktX1_lowers_1 := dk_seg dksX1_lowers_0 24 rfl rfl
theorem dksX1_lowers_2 : cX1_lowers.data.toList.drop 47 = dktX1_lowers_2 := dk_seg dksX1_lowers_1 23 rfl rfl
theorem dksX1_lowers_3 : cX1_lowers.data.toList.drop 71 = dktX1_lowers_3 := dk_seg dksX1_lowers_2 24 rfl rfl
theorem dksX1_lowers_4 : cX1_lowers.data.toList.drop 94 = dktX1_lowers_4 := dk_seg dksX1_lowers_3 23 rfl rfl
theorem dX1_lowers_0 : decode cX1_lowers 0 = .ok (.iconst 0, 1) := dk_3 (dk_at dksX1_lowers_0 0 rfl rfl)
theorem dX1_lowers_1 : decode cX1_lowers 1 = .ok (.istore 4, 2) := dk_54 4 (dk_at dksX1_lowers_0 1 rfl rfl)
theorem dX1_lowers_3 : decode cX1_lowers 3 = .ok (.aload_n 0, 1) := dk_42 (dk_at dksX1_lowers_0 3 rfl rfl)
theorem dX1_lowers_4 : decode cX1_lowers 4 = .ok (.getfield 14, 3) := dk_180 0 14 (dk_at dksX1_lowers_0 4 rfl rfl)
theorem dX1_lowers_7 : decode cX1_lowers 7 = .ok (.iload_n 3, 1) := dk_29 (dk_at dksX1_lowers_0 7 rfl rfl)
theorem dX1_lowers_8 : decode cX1_lowers 8 = .ok (.invokevirtual 90, 3) := dk_182 0 90 (dk_at dksX1_lowers_0 8 rfl rfl)
theorem dX1_lowers_11 : decode cX1_lowers 11 = .ok (.checkcast 42, 3) := dk_192 0 42 (dk_at dksX1_lowers_0 11 rfl rfl)
theorem dX1_lowers_14 : decode cX1_lowers 14 = .ok (.invokevirtual 122, 3) := dk_182 0 122 (dk_at dksX1_lowers_0 14 rfl rfl)
theorem dX1_lowers_17 : decode cX1_lowers 17 = .ok (.istore 5, 2) := dk_54 5 (dk_at dksX1_lowers_0 17 rfl rfl)
theorem dX1_lowers_19 : decode cX1_lowers 19 = .ok (.iconst 0, 1) := dk_3 (dk_at dksX1_lowers_0 19 rfl rfl)
theorem dX1_lowers_20 : decode cX1_lowers 20 = .ok (.istore 6, 2) := dk_54 6 (dk_at dksX1_lowers_0 20 rfl rfl)
theorem dX1_lowers_22 : decode cX1_lowers 22 = .ok (.iload 6, 2) := dk_21 6 (dk_at dksX1_lowers_0 22 rfl rfl)
theorem dX1_lowers_24 : decode cX1_lowers 24 = .ok (.iconst 2, 1) := dk_5 (dk_at dksX1_lowers_1 0 rfl rfl)
theorem dX1_lowers_25 : decode cX1_lowers 25 = .ok (.if_icmp .ge 75, 3) := dk_162 0 75 (dk_at dksX1_lowers_1 1 rfl rfl)
theorem dX1_lowers_28 : decode cX1_lowers 28 = .ok (.aload_n 1, 1) := dk_43 (dk_at dksX1_lowers_1 4 rfl rfl)
theorem dX1_lowers_29 : decode cX1_lowers 29 = .ok (.iconst 2, 1) := dk_5 (dk_at dksX1_lowers_1 5 rfl rfl)
theorem dX1_lowers_30 : decode cX1_lowers 30 = .ok (.iload_n 3, 1) := dk_29 (dk_at dksX1_lowers_1 6 rfl rfl)
theorem dX1_lowers_31 : decode cX1_lowers 31 = .ok (.imul, 1) := dk_104 (dk_at dksX1_lowers_1 7 rfl rfl)
theorem dX1_lowers_32 : decode cX1_lowers 32 = .ok (.iload 6, 2) := dk_21 6 (dk_at dksX1_lowers_1 8 rfl rfl)
theorem dX1_lowers_34 : decode cX1_lowers 34 = .ok (.iadd, 1) := dk_96 (dk_at dksX1_lowers_1 10 rfl rfl)
theorem dX1_lowers_35 : decode cX1_lowers 35 = .ok (.iaload, 1) := dk_46 (dk_at dksX1_lowers_1 11 rfl rfl)
theorem dX1_lowers_36 : decode cX1_lowers 36 = .ok (.istore 7, 2) := dk_54 7 (dk_at dksX1_lowers_1 12 rfl rfl)
theorem dX1_lowers_38 : decode cX1_lowers 38 = .ok (.iload 7, 2) := dk_21 7 (dk_at dksX1_lowers_1 14 rfl rfl)
theorem dX1_lowers_40 : decode cX1_lowers 40 = .ok (.sipush 10000, 3) := dk_17 39 16 (dk_at dksX1_lowers_1 16 rfl rfl)
theorem dX1_lowers_43 : decode cX1_lowers 43 = .ok (.if_icmp .ge 51, 3) := dk_162 0 51 (dk_at dksX1_lowers_1 19 rfl rfl)
theorem dX1_lowers_46 : decode cX1_lowers 46 = .ok (.aload_n 2, 1) := dk_44 (dk_at dksX1_lowers_1 22 rfl rfl)
theorem dX1_lowers_47 : decode cX1_lowers 47 = .ok (.getfield 124, 3) := dk_180 0 124 (dk_at dksX1_lowers_2 0 rfl rfl)
theorem dX1_lowers_50 : decode cX1_lowers 50 = .ok (.ifCond .ne 44, 3) := dk_154 0 44 (dk_at dksX1_lowers_2 3 rfl rfl)
theorem dX1_lowers_53 : decode cX1_lowers 53 = .ok (.aload_n 2, 1) := dk_44 (dk_at dksX1_lowers_2 6 rfl rfl)
theorem dX1_lowers_54 : decode cX1_lowers 54 = .ok (.iload 6, 2) := dk_21 6 (dk_at dksX1_lowers_2 7 rfl rfl)
theorem dX1_lowers_56 : decode cX1_lowers 56 = .ok (.iload 5, 2) := dk_21 5 (dk_at dksX1_lowers_2 9 rfl rfl)
theorem dX1_lowers_58 : decode cX1_lowers 58 = .ok (.iadd, 1) := dk_96 (dk_at dksX1_lowers_2 11 rfl rfl)
theorem dX1_lowers_59 : decode cX1_lowers 59 = .ok (.invokevirtual 131, 3) := dk_182 0 131 (dk_at dksX1_lowers_2 12 rfl rfl)
theorem dX1_lowers_62 : decode cX1_lowers 62 = .ok (.ifCond .eq 32, 3) := dk_153 0 32 (dk_at dksX1_lowers_2 15 rfl rfl)
theorem dX1_lowers_65 : decode cX1_lowers 65 = .ok (.iload 4, 2) := dk_21 4 (dk_at dksX1_lowers_2 18 rfl rfl)
theorem dX1_lowers_67 : decode cX1_lowers 67 = .ok (.aload_n 1, 1) := dk_43 (dk_at dksX1_lowers_2 20 rfl rfl)
theorem dX1_lowers_68 : decode cX1_lowers 68 = .ok (.iconst 2, 1) := dk_5 (dk_at dksX1_lowers_2 21 rfl rfl)
theorem dX1_lowers_69 : decode cX1_lowers 69 = .ok (.aload_n 2, 1) := dk_44 (dk_at dksX1_lowers_2 22 rfl rfl)
theorem dX1_lowers_70 : decode cX1_lowers 70 = .ok (.iload_n 3, 1) := dk_29 (dk_at dksX1_lowers_2 23 rfl rfl)
theorem dX1_lowers_71 : decode cX1_lowers 71 = .ok (.invokevirtual 145, 3) := dk_182 0 145 (dk_at dksX1_lowers_3 0 rfl rfl)
theorem dX1_lowers_74 : decode cX1_lowers 74 = .ok (.imul, 1) := dk_104 (dk_at dksX1_lowers_3 3 rfl rfl)
theorem dX1_lowers_75 : decode cX1_lowers 75 = .ok (.iload 6, 2) := dk_21 6 (dk_at dksX1_lowers_3 4 rfl rfl)
theorem dX1_lowers_77 : decode cX1_lowers 77 = .ok (.iload 5, 2) := dk_21 5 (dk_at dksX1_lowers_3 6 rfl rfl)
theorem dX1_lowers_79 : decode cX1_lowers 79 = .ok (.iadd, 1) := dk_96 (dk_at dksX1_lowers_3 8 rfl rfl)
theorem dX1_lowers_80 : decode cX1_lowers 80 = .ok (.iconst 2, 1) := dk_5 (dk_at dksX1_lowers_3 9 rfl rfl)
theorem dX1_lowers_81 : decode cX1_lowers 81 = .ok (.irem, 1) := dk_112 (dk_at dksX1_lowers_3 10 rfl rfl)
theorem dX1_lowers_82 : decode cX1_lowers 82 = .ok (.iadd, 1) := dk_96 (dk_at dksX1_lowers_3 11 rfl rfl)
theorem dX1_lowers_83 : decode cX1_lowers 83 = .ok (.iload 7, 2) := dk_21 7 (dk_at dksX1_lowers_3 12 rfl rfl)
theorem dX1_lowers_85 : decode cX1_lowers 85 = .ok (.iload 5, 2) := dk_21 5 (dk_at dksX1_lowers_3 14 rfl rfl)
theorem dX1_lowers_87 : decode cX1_lowers 87 = .ok (.iadd, 1) := dk_96 (dk_at dksX1_lowers_3 16 rfl rfl)
theorem dX1_lowers_88 : decode cX1_lowers 88 = .ok (.invokestatic 256, 3) := dk_184 1 0 (dk_at dksX1_lowers_3 17 rfl rfl)
theorem dX1_lowers_91 : decode cX1_lowers 91 = .ok (.ior, 1) := dk_128 (dk_at dksX1_lowers_3 20 rfl rfl)
theorem dX1_lowers_92 : decode cX1_lowers 92 = .ok (.istore 4, 2) := dk_54 4 (dk_at dksX1_lowers_3 21 rfl rfl)
theorem dX1_lowers_94 : decode cX1_lowers 94 = .ok (.iinc 6 1, 3) := dk_132 6 1 (dk_at dksX1_lowers_4 0 rfl rfl)
theorem dX1_lowers_97 : decode cX1_lowers 97 = .ok (.goto (-75), 3) := dk_167 255 181 (dk_at dksX1_lowers_4 3 rfl rfl)
theorem dX1_lowers_100 : decode cX1_lowers 100 = .ok (.iload 4, 2) := dk_21 4 (dk_at dksX1_lowers_4 6 rfl rfl)
theorem dX1_lowers_102 : decode cX1_lowers 102 = .ok (.ireturn, 1) := dk_172 (dk_at dksX1_lowers_4 8 rfl rfl)
abbrev cX1_told : ByteArray := prog_4_method_32_code
def yX1_told : MethodName := ⟨RX1, "told", "(III)Ljava/util/LinkedList;"⟩
def dkwX1_told_3 : List UInt8 := [58, 6, 25, 4, 25, 6, 180, 0, 172, 184, 0, 201, 182, 0, 190, 167, 255, 224, 25, 4, 176]
abbrev dktX1_told_3 : List UInt8 := dkwX1_told_3 ++ []
def dkwX1_told_2 : List UInt8 := [27, 184, 0, 201, 182, 0, 190, 25, 6, 180, 0, 172, 28, 159, 0, 29, 42, 25, 6, 25, 5, 182, 1, 11]
abbrev dktX1_told_2 : List UInt8 := dkwX1_told_2 ++ dktX1_told_3
def dkwX1_told_1 : List UInt8 := [183, 0, 222, 58, 6, 25, 5, 25, 6, 182, 1, 8, 46, 17, 39, 16, 160, 0, 6, 25, 4, 176, 25, 4]
abbrev dktX1_told_1 : List UInt8 := dkwX1_told_1 ++ dktX1_told_2
def dkwX1_told_0 : List UInt8 := [187, 0, 187, 89, 183, 0, 189, 58, 4, 42, 28, 182, 1, 4, 58, 5, 187, 0, 173, 89, 27, 29]
abbrev dktX1_told_0 : List UInt8 := dkwX1_told_0 ++ dktX1_told_1
theorem dksX1_told_0 : cX1_told.data.toList.drop 0 = dktX1_told_0 := by decide +kernel
theorem dksX1_told_1 : cX1_told.data.toList.drop 22 = dktX1_told_1 := dk_seg dksX1_told_0 22 rfl rfl
theorem dksX1_told_2 : cX1_told.data.toList.drop 46 = dktX1_told_2 := dk_seg dksX1_told_1 24 rfl rfl
theorem dksX1_told_3 : cX1_told.data.toList.drop 70 = dktX1_told_3 := dk_seg dksX1_told_2 24 rfl rfl
theorem dX1_told_0 : decode cX1_told 0 = .ok (.new 187, 3) := dk_187 0 187 (dk_at dksX1_told_0 0 rfl rfl)
theorem dX1_told_3 : decode cX1_told 3 = .ok (.dup, 1) := dk_89 (dk_at dksX1_told_0 3 rfl rfl)
theorem dX1_told_4 : decode cX1_told 4 = .ok (.invokespecial 189, 3) := dk_183 0 189 (dk_at dksX1_told_0 4 rfl rfl)
theorem dX1_told_7 : decode cX1_told 7 = .ok (.astore 4, 2) := dk_58 4 (dk_at dksX1_told_0 7 rfl rfl)
theorem dX1_told_9 : decode cX1_told 9 = .ok (.aload_n 0, 1) := dk_42 (dk_at dksX1_told_0 9 rfl rfl)
theorem dX1_told_10 : decode cX1_told 10 = .ok (.iload_n 2, 1) := dk_28 (dk_at dksX1_told_0 10 rfl rfl)
theorem dX1_told_11 : decode cX1_told 11 = .ok (.invokevirtual 260, 3) := dk_182 1 4 (dk_at dksX1_told_0 11 rfl rfl)
theorem dX1_told_14 : decode cX1_told 14 = .ok (.astore 5, 2) := dk_58 5 (dk_at dksX1_told_0 14 rfl rfl)
theorem dX1_told_16 : decode cX1_told 16 = .ok (.new 173, 3) := dk_187 0 173 (dk_at dksX1_told_0 16 rfl rfl)
theorem dX1_told_19 : decode cX1_told 19 = .ok (.dup, 1) := dk_89 (dk_at dksX1_told_0 19 rfl rfl)
theorem dX1_told_20 : decode cX1_told 20 = .ok (.iload_n 1, 1) := dk_27 (dk_at dksX1_told_0 20 rfl rfl)
theorem dX1_told_21 : decode cX1_told 21 = .ok (.iload_n 3, 1) := dk_29 (dk_at dksX1_told_0 21 rfl rfl)
theorem dX1_told_22 : decode cX1_told 22 = .ok (.invokespecial 222, 3) := dk_183 0 222 (dk_at dksX1_told_1 0 rfl rfl)
theorem dX1_told_25 : decode cX1_told 25 = .ok (.astore 6, 2) := dk_58 6 (dk_at dksX1_told_1 3 rfl rfl)
theorem dX1_told_27 : decode cX1_told 27 = .ok (.aload 5, 2) := dk_25 5 (dk_at dksX1_told_1 5 rfl rfl)
theorem dX1_told_29 : decode cX1_told 29 = .ok (.aload 6, 2) := dk_25 6 (dk_at dksX1_told_1 7 rfl rfl)
theorem dX1_told_31 : decode cX1_told 31 = .ok (.invokevirtual 264, 3) := dk_182 1 8 (dk_at dksX1_told_1 9 rfl rfl)
theorem dX1_told_34 : decode cX1_told 34 = .ok (.iaload, 1) := dk_46 (dk_at dksX1_told_1 12 rfl rfl)
theorem dX1_told_35 : decode cX1_told 35 = .ok (.sipush 10000, 3) := dk_17 39 16 (dk_at dksX1_told_1 13 rfl rfl)
theorem dX1_told_38 : decode cX1_told 38 = .ok (.if_icmp .ne 6, 3) := dk_160 0 6 (dk_at dksX1_told_1 16 rfl rfl)
theorem dX1_told_41 : decode cX1_told 41 = .ok (.aload 4, 2) := dk_25 4 (dk_at dksX1_told_1 19 rfl rfl)
theorem dX1_told_43 : decode cX1_told 43 = .ok (.areturn, 1) := dk_176 (dk_at dksX1_told_1 21 rfl rfl)
theorem dX1_told_44 : decode cX1_told 44 = .ok (.aload 4, 2) := dk_25 4 (dk_at dksX1_told_1 22 rfl rfl)
theorem dX1_told_46 : decode cX1_told 46 = .ok (.iload_n 1, 1) := dk_27 (dk_at dksX1_told_2 0 rfl rfl)
theorem dX1_told_47 : decode cX1_told 47 = .ok (.invokestatic 201, 3) := dk_184 0 201 (dk_at dksX1_told_2 1 rfl rfl)
theorem dX1_told_50 : decode cX1_told 50 = .ok (.invokevirtual 190, 3) := dk_182 0 190 (dk_at dksX1_told_2 4 rfl rfl)
theorem dX1_told_53 : decode cX1_told 53 = .ok (.aload 6, 2) := dk_25 6 (dk_at dksX1_told_2 7 rfl rfl)
theorem dX1_told_55 : decode cX1_told 55 = .ok (.getfield 172, 3) := dk_180 0 172 (dk_at dksX1_told_2 9 rfl rfl)
theorem dX1_told_58 : decode cX1_told 58 = .ok (.iload_n 2, 1) := dk_28 (dk_at dksX1_told_2 12 rfl rfl)
theorem dX1_told_59 : decode cX1_told 59 = .ok (.if_icmp .eq 29, 3) := dk_159 0 29 (dk_at dksX1_told_2 13 rfl rfl)
theorem dX1_told_62 : decode cX1_told 62 = .ok (.aload_n 0, 1) := dk_42 (dk_at dksX1_told_2 16 rfl rfl)
theorem dX1_told_63 : decode cX1_told 63 = .ok (.aload 6, 2) := dk_25 6 (dk_at dksX1_told_2 17 rfl rfl)
theorem dX1_told_65 : decode cX1_told 65 = .ok (.aload 5, 2) := dk_25 5 (dk_at dksX1_told_2 19 rfl rfl)
theorem dX1_told_67 : decode cX1_told 67 = .ok (.invokevirtual 267, 3) := dk_182 1 11 (dk_at dksX1_told_2 21 rfl rfl)
theorem dX1_told_70 : decode cX1_told 70 = .ok (.astore 6, 2) := dk_58 6 (dk_at dksX1_told_3 0 rfl rfl)
theorem dX1_told_72 : decode cX1_told 72 = .ok (.aload 4, 2) := dk_25 4 (dk_at dksX1_told_3 2 rfl rfl)
theorem dX1_told_74 : decode cX1_told 74 = .ok (.aload 6, 2) := dk_25 6 (dk_at dksX1_told_3 4 rfl rfl)
theorem dX1_told_76 : decode cX1_told 76 = .ok (.getfield 172, 3) := dk_180 0 172 (dk_at dksX1_told_3 6 rfl rfl)
theorem dX1_told_79 : decode cX1_told 79 = .ok (.invokestatic 201, 3) := dk_184 0 201 (dk_at dksX1_told_3 9 rfl rfl)
theorem dX1_told_82 : decode cX1_told 82 = .ok (.invokevirtual 190, 3) := dk_182 0 190 (dk_at dksX1_told_3 12 rfl rfl)
theorem dX1_told_85 : decode cX1_told 85 = .ok (.goto (-32), 3) := dk_167 255 224 (dk_at dksX1_told_3 15 rfl rfl)
theorem dX1_told_88 : decode cX1_told 88 = .ok (.aload 4, 2) := dk_25 4 (dk_at dksX1_told_3 18 rfl rfl)
theorem dX1_told_90 : decode cX1_told 90 = .ok (.areturn, 1) := dk_176 (dk_at dksX1_told_3 20 rfl rfl)
abbrev cX1_leftTo : ByteArray := prog_4_method_33_code
def yX1_leftTo : MethodName := ⟨RX1, "leftTo", "(I)[I"⟩
def dkwX1_leftTo_4 : List UInt8 := [44, 25, 5, 25, 5, 180, 0, 253, 182, 1, 14, 128, 128, 62, 167, 255, 206, 167, 255, 184, 44, 176]
abbrev dktX1_leftTo_4 : List UInt8 := dkwX1_leftTo_4 ++ []
def dkwX1_leftTo_3 : List UInt8 := [185, 0, 38, 1, 0, 192, 0, 52, 58, 5, 29, 42, 44, 25, 5, 25, 5, 180, 0, 246, 182, 1, 14, 42]
abbrev dktX1_leftTo_3 : List UInt8 := dkwX1_leftTo_3 ++ dktX1_leftTo_4
def dkwX1_leftTo_2 : List UInt8 := [62, 42, 180, 0, 20, 182, 0, 28, 58, 4, 25, 4, 185, 0, 32, 1, 0, 153, 0, 46, 25, 4]
abbrev dktX1_leftTo_2 : List UInt8 := dkwX1_leftTo_2 ++ dktX1_leftTo_3
def dkwX1_leftTo_1 : List UInt8 := [167, 0, 6, 17, 39, 16, 79, 132, 3, 1, 167, 255, 230, 4, 62, 29, 153, 0, 74, 42, 44, 182, 0, 242]
abbrev dktX1_leftTo_1 : List UInt8 := dkwX1_leftTo_1 ++ dktX1_leftTo_2
def dkwX1_leftTo_0 : List UInt8 := [16, 20, 188, 10, 77, 3, 62, 29, 44, 190, 162, 0, 26, 44, 29, 29, 5, 108, 27, 160, 0, 7, 3]
abbrev dktX1_leftTo_0 : List UInt8 := dkwX1_leftTo_0 ++ dktX1_leftTo_1
theorem dksX1_leftTo_0 : cX1_leftTo.data.toList.drop 0 = dktX1_leftTo_0 := by decide +kernel
theorem dksX1_leftTo_1 : cX1_leftTo.data.toList.drop 23 = dktX1_leftTo_1 := dk_seg dksX1_leftTo_0 23 rfl rfl
theorem dksX1_leftTo_2 : cX1_leftTo.data.toList.drop 47 = dktX1_leftTo_2 := dk_seg dksX1_leftTo_1 24 rfl rfl
theorem dksX1_leftTo_3 : cX1_leftTo.data.toList.drop 69 = dktX1_leftTo_3 := dk_seg dksX1_leftTo_2 22 rfl rfl
theorem dksX1_leftTo_4 : cX1_leftTo.data.toList.drop 93 = dktX1_leftTo_4 := dk_seg dksX1_leftTo_3 24 rfl rfl
theorem dX1_leftTo_0 : decode cX1_leftTo 0 = .ok (.bipush 20, 2) := dk_16 20 (dk_at dksX1_leftTo_0 0 rfl rfl)
theorem dX1_leftTo_2 : decode cX1_leftTo 2 = .ok (.newarray .int, 2) := dk_188_10 (dk_at dksX1_leftTo_0 2 rfl rfl)
theorem dX1_leftTo_4 : decode cX1_leftTo 4 = .ok (.astore_n 2, 1) := dk_77 (dk_at dksX1_leftTo_0 4 rfl rfl)
theorem dX1_leftTo_5 : decode cX1_leftTo 5 = .ok (.iconst 0, 1) := dk_3 (dk_at dksX1_leftTo_0 5 rfl rfl)
theorem dX1_leftTo_6 : decode cX1_leftTo 6 = .ok (.istore_n 3, 1) := dk_62 (dk_at dksX1_leftTo_0 6 rfl rfl)
theorem dX1_leftTo_7 : decode cX1_leftTo 7 = .ok (.iload_n 3, 1) := dk_29 (dk_at dksX1_leftTo_0 7 rfl rfl)
theorem dX1_leftTo_8 : decode cX1_leftTo 8 = .ok (.aload_n 2, 1) := dk_44 (dk_at dksX1_leftTo_0 8 rfl rfl)
theorem dX1_leftTo_9 : decode cX1_leftTo 9 = .ok (.arraylength, 1) := dk_190 (dk_at dksX1_leftTo_0 9 rfl rfl)
theorem dX1_leftTo_10 : decode cX1_leftTo 10 = .ok (.if_icmp .ge 26, 3) := dk_162 0 26 (dk_at dksX1_leftTo_0 10 rfl rfl)
theorem dX1_leftTo_13 : decode cX1_leftTo 13 = .ok (.aload_n 2, 1) := dk_44 (dk_at dksX1_leftTo_0 13 rfl rfl)
theorem dX1_leftTo_14 : decode cX1_leftTo 14 = .ok (.iload_n 3, 1) := dk_29 (dk_at dksX1_leftTo_0 14 rfl rfl)
theorem dX1_leftTo_15 : decode cX1_leftTo 15 = .ok (.iload_n 3, 1) := dk_29 (dk_at dksX1_leftTo_0 15 rfl rfl)
theorem dX1_leftTo_16 : decode cX1_leftTo 16 = .ok (.iconst 2, 1) := dk_5 (dk_at dksX1_leftTo_0 16 rfl rfl)
theorem dX1_leftTo_17 : decode cX1_leftTo 17 = .ok (.idiv, 1) := dk_108 (dk_at dksX1_leftTo_0 17 rfl rfl)
theorem dX1_leftTo_18 : decode cX1_leftTo 18 = .ok (.iload_n 1, 1) := dk_27 (dk_at dksX1_leftTo_0 18 rfl rfl)
theorem dX1_leftTo_19 : decode cX1_leftTo 19 = .ok (.if_icmp .ne 7, 3) := dk_160 0 7 (dk_at dksX1_leftTo_0 19 rfl rfl)
theorem dX1_leftTo_22 : decode cX1_leftTo 22 = .ok (.iconst 0, 1) := dk_3 (dk_at dksX1_leftTo_0 22 rfl rfl)
theorem dX1_leftTo_23 : decode cX1_leftTo 23 = .ok (.goto 6, 3) := dk_167 0 6 (dk_at dksX1_leftTo_1 0 rfl rfl)
theorem dX1_leftTo_26 : decode cX1_leftTo 26 = .ok (.sipush 10000, 3) := dk_17 39 16 (dk_at dksX1_leftTo_1 3 rfl rfl)
theorem dX1_leftTo_29 : decode cX1_leftTo 29 = .ok (.iastore, 1) := dk_79 (dk_at dksX1_leftTo_1 6 rfl rfl)
theorem dX1_leftTo_30 : decode cX1_leftTo 30 = .ok (.iinc 3 1, 3) := dk_132 3 1 (dk_at dksX1_leftTo_1 7 rfl rfl)
theorem dX1_leftTo_33 : decode cX1_leftTo 33 = .ok (.goto (-26), 3) := dk_167 255 230 (dk_at dksX1_leftTo_1 10 rfl rfl)
theorem dX1_leftTo_36 : decode cX1_leftTo 36 = .ok (.iconst 1, 1) := dk_4 (dk_at dksX1_leftTo_1 13 rfl rfl)
theorem dX1_leftTo_37 : decode cX1_leftTo 37 = .ok (.istore_n 3, 1) := dk_62 (dk_at dksX1_leftTo_1 14 rfl rfl)
theorem dX1_leftTo_38 : decode cX1_leftTo 38 = .ok (.iload_n 3, 1) := dk_29 (dk_at dksX1_leftTo_1 15 rfl rfl)
theorem dX1_leftTo_39 : decode cX1_leftTo 39 = .ok (.ifCond .eq 74, 3) := dk_153 0 74 (dk_at dksX1_leftTo_1 16 rfl rfl)
theorem dX1_leftTo_42 : decode cX1_leftTo 42 = .ok (.aload_n 0, 1) := dk_42 (dk_at dksX1_leftTo_1 19 rfl rfl)
theorem dX1_leftTo_43 : decode cX1_leftTo 43 = .ok (.aload_n 2, 1) := dk_44 (dk_at dksX1_leftTo_1 20 rfl rfl)
theorem dX1_leftTo_44 : decode cX1_leftTo 44 = .ok (.invokevirtual 242, 3) := dk_182 0 242 (dk_at dksX1_leftTo_1 21 rfl rfl)
theorem dX1_leftTo_47 : decode cX1_leftTo 47 = .ok (.istore_n 3, 1) := dk_62 (dk_at dksX1_leftTo_2 0 rfl rfl)
theorem dX1_leftTo_48 : decode cX1_leftTo 48 = .ok (.aload_n 0, 1) := dk_42 (dk_at dksX1_leftTo_2 1 rfl rfl)
theorem dX1_leftTo_49 : decode cX1_leftTo 49 = .ok (.getfield 20, 3) := dk_180 0 20 (dk_at dksX1_leftTo_2 2 rfl rfl)
theorem dX1_leftTo_52 : decode cX1_leftTo 52 = .ok (.invokevirtual 28, 3) := dk_182 0 28 (dk_at dksX1_leftTo_2 5 rfl rfl)
theorem dX1_leftTo_55 : decode cX1_leftTo 55 = .ok (.astore 4, 2) := dk_58 4 (dk_at dksX1_leftTo_2 8 rfl rfl)
theorem dX1_leftTo_57 : decode cX1_leftTo 57 = .ok (.aload 4, 2) := dk_25 4 (dk_at dksX1_leftTo_2 10 rfl rfl)
theorem dX1_leftTo_59 : decode cX1_leftTo 59 = .ok (.invokeinterface 32 1, 5) := by decide +kernel
theorem dX1_leftTo_64 : decode cX1_leftTo 64 = .ok (.ifCond .eq 46, 3) := dk_153 0 46 (dk_at dksX1_leftTo_2 17 rfl rfl)
theorem dX1_leftTo_67 : decode cX1_leftTo 67 = .ok (.aload 4, 2) := dk_25 4 (dk_at dksX1_leftTo_2 20 rfl rfl)
theorem dX1_leftTo_69 : decode cX1_leftTo 69 = .ok (.invokeinterface 38 1, 5) := by decide +kernel
theorem dX1_leftTo_74 : decode cX1_leftTo 74 = .ok (.checkcast 52, 3) := dk_192 0 52 (dk_at dksX1_leftTo_3 5 rfl rfl)
theorem dX1_leftTo_77 : decode cX1_leftTo 77 = .ok (.astore 5, 2) := dk_58 5 (dk_at dksX1_leftTo_3 8 rfl rfl)
theorem dX1_leftTo_79 : decode cX1_leftTo 79 = .ok (.iload_n 3, 1) := dk_29 (dk_at dksX1_leftTo_3 10 rfl rfl)
theorem dX1_leftTo_80 : decode cX1_leftTo 80 = .ok (.aload_n 0, 1) := dk_42 (dk_at dksX1_leftTo_3 11 rfl rfl)
theorem dX1_leftTo_81 : decode cX1_leftTo 81 = .ok (.aload_n 2, 1) := dk_44 (dk_at dksX1_leftTo_3 12 rfl rfl)
theorem dX1_leftTo_82 : decode cX1_leftTo 82 = .ok (.aload 5, 2) := dk_25 5 (dk_at dksX1_leftTo_3 13 rfl rfl)
theorem dX1_leftTo_84 : decode cX1_leftTo 84 = .ok (.aload 5, 2) := dk_25 5 (dk_at dksX1_leftTo_3 15 rfl rfl)
theorem dX1_leftTo_86 : decode cX1_leftTo 86 = .ok (.getfield 246, 3) := dk_180 0 246 (dk_at dksX1_leftTo_3 17 rfl rfl)
theorem dX1_leftTo_89 : decode cX1_leftTo 89 = .ok (.invokevirtual 270, 3) := dk_182 1 14 (dk_at dksX1_leftTo_3 20 rfl rfl)
theorem dX1_leftTo_92 : decode cX1_leftTo 92 = .ok (.aload_n 0, 1) := dk_42 (dk_at dksX1_leftTo_3 23 rfl rfl)
theorem dX1_leftTo_93 : decode cX1_leftTo 93 = .ok (.aload_n 2, 1) := dk_44 (dk_at dksX1_leftTo_4 0 rfl rfl)
theorem dX1_leftTo_94 : decode cX1_leftTo 94 = .ok (.aload 5, 2) := dk_25 5 (dk_at dksX1_leftTo_4 1 rfl rfl)
theorem dX1_leftTo_96 : decode cX1_leftTo 96 = .ok (.aload 5, 2) := dk_25 5 (dk_at dksX1_leftTo_4 3 rfl rfl)
theorem dX1_leftTo_98 : decode cX1_leftTo 98 = .ok (.getfield 253, 3) := dk_180 0 253 (dk_at dksX1_leftTo_4 5 rfl rfl)
theorem dX1_leftTo_101 : decode cX1_leftTo 101 = .ok (.invokevirtual 270, 3) := dk_182 1 14 (dk_at dksX1_leftTo_4 8 rfl rfl)
theorem dX1_leftTo_104 : decode cX1_leftTo 104 = .ok (.ior, 1) := dk_128 (dk_at dksX1_leftTo_4 11 rfl rfl)
theorem dX1_leftTo_105 : decode cX1_leftTo 105 = .ok (.ior, 1) := dk_128 (dk_at dksX1_leftTo_4 12 rfl rfl)
theorem dX1_leftTo_106 : decode cX1_leftTo 106 = .ok (.istore_n 3, 1) := dk_62 (dk_at dksX1_leftTo_4 13 rfl rfl)
theorem dX1_leftTo_107 : decode cX1_leftTo 107 = .ok (.goto (-50), 3) := dk_167 255 206 (dk_at dksX1_leftTo_4 14 rfl rfl)
theorem dX1_leftTo_110 : decode cX1_leftTo 110 = .ok (.goto (-72), 3) := dk_167 255 184 (dk_at dksX1_leftTo_4 17 rfl rfl)
theorem dX1_leftTo_113 : decode cX1_leftTo 113 = .ok (.aload_n 2, 1) := dk_44 (dk_at dksX1_leftTo_4 20 rfl rfl)
theorem dX1_leftTo_114 : decode cX1_leftTo 114 = .ok (.areturn, 1) := dk_176 (dk_at dksX1_leftTo_4 21 rfl rfl)
abbrev cX1_comesBack : ByteArray := prog_4_method_34_code
def yX1_comesBack : MethodName := ⟨RX1, "comesBack", "([ILParityMaze$Door;I)Z"⟩
def dkwX1_comesBack_4 : List UInt8 := [4, 167, 0, 4, 3, 128, 54, 4, 132, 6, 1, 167, 255, 173, 21, 4, 172]
abbrev dktX1_comesBack_4 : List UInt8 := dkwX1_comesBack_4 ++ []
def dkwX1_comesBack_3 : List UInt8 := [182, 0, 131, 153, 0, 25, 43, 5, 29, 104, 21, 6, 96, 21, 7, 21, 5, 96, 184, 1, 0, 153, 0, 7]
abbrev dktX1_comesBack_3 : List UInt8 := dkwX1_comesBack_3 ++ dktX1_comesBack_4
def dkwX1_comesBack_2 : List UInt8 := [5, 112, 96, 46, 54, 7, 21, 4, 21, 7, 17, 39, 16, 162, 0, 37, 44, 21, 6, 21, 5, 96]
abbrev dktX1_comesBack_2 : List UInt8 := dkwX1_comesBack_2 ++ dktX1_comesBack_3
def dkwX1_comesBack_1 : List UInt8 := [5, 162, 0, 83, 44, 180, 0, 124, 154, 0, 76, 43, 5, 44, 29, 182, 0, 145, 104, 21, 6, 21, 5, 96]
abbrev dktX1_comesBack_1 : List UInt8 := dkwX1_comesBack_1 ++ dktX1_comesBack_2
def dkwX1_comesBack_0 : List UInt8 := [3, 54, 4, 42, 180, 0, 14, 29, 182, 0, 90, 192, 0, 42, 182, 0, 122, 54, 5, 3, 54, 6, 21, 6]
abbrev dktX1_comesBack_0 : List UInt8 := dkwX1_comesBack_0 ++ dktX1_comesBack_1
theorem dksX1_comesBack_0 : cX1_comesBack.data.toList.drop 0 = dktX1_comesBack_0 := by decide +kernel
theorem dksX1_comesBack_1 : cX1_comesBack.data.toList.drop 24 = dktX1_comesBack_1 := dk_seg dksX1_comesBack_0 24 rfl rfl
theorem dksX1_comesBack_2 : cX1_comesBack.data.toList.drop 48 = dktX1_comesBack_2 := dk_seg dksX1_comesBack_1 24 rfl rfl
theorem dksX1_comesBack_3 : cX1_comesBack.data.toList.drop 70 = dktX1_comesBack_3 := dk_seg dksX1_comesBack_2 22 rfl rfl
theorem dksX1_comesBack_4 : cX1_comesBack.data.toList.drop 94 = dktX1_comesBack_4 := dk_seg dksX1_comesBack_3 24 rfl rfl
theorem dX1_comesBack_0 : decode cX1_comesBack 0 = .ok (.iconst 0, 1) := dk_3 (dk_at dksX1_comesBack_0 0 rfl rfl)
theorem dX1_comesBack_1 : decode cX1_comesBack 1 = .ok (.istore 4, 2) := dk_54 4 (dk_at dksX1_comesBack_0 1 rfl rfl)
theorem dX1_comesBack_3 : decode cX1_comesBack 3 = .ok (.aload_n 0, 1) := dk_42 (dk_at dksX1_comesBack_0 3 rfl rfl)
theorem dX1_comesBack_4 : decode cX1_comesBack 4 = .ok (.getfield 14, 3) := dk_180 0 14 (dk_at dksX1_comesBack_0 4 rfl rfl)
theorem dX1_comesBack_7 : decode cX1_comesBack 7 = .ok (.iload_n 3, 1) := dk_29 (dk_at dksX1_comesBack_0 7 rfl rfl)
theorem dX1_comesBack_8 : decode cX1_comesBack 8 = .ok (.invokevirtual 90, 3) := dk_182 0 90 (dk_at dksX1_comesBack_0 8 rfl rfl)
theorem dX1_comesBack_11 : decode cX1_comesBack 11 = .ok (.checkcast 42, 3) := dk_192 0 42 (dk_at dksX1_comesBack_0 11 rfl rfl)
theorem dX1_comesBack_14 : decode cX1_comesBack 14 = .ok (.invokevirtual 122, 3) := dk_182 0 122 (dk_at dksX1_comesBack_0 14 rfl rfl)
theorem dX1_comesBack_17 : decode cX1_comesBack 17 = .ok (.istore 5, 2) := dk_54 5 (dk_at dksX1_comesBack_0 17 rfl rfl)
theorem dX1_comesBack_19 : decode cX1_comesBack 19 = .ok (.iconst 0, 1) := dk_3 (dk_at dksX1_comesBack_0 19 rfl rfl)
theorem dX1_comesBack_20 : decode cX1_comesBack 20 = .ok (.istore 6, 2) := dk_54 6 (dk_at dksX1_comesBack_0 20 rfl rfl)
theorem dX1_comesBack_22 : decode cX1_comesBack 22 = .ok (.iload 6, 2) := dk_21 6 (dk_at dksX1_comesBack_0 22 rfl rfl)
theorem dX1_comesBack_24 : decode cX1_comesBack 24 = .ok (.iconst 2, 1) := dk_5 (dk_at dksX1_comesBack_1 0 rfl rfl)
theorem dX1_comesBack_25 : decode cX1_comesBack 25 = .ok (.if_icmp .ge 83, 3) := dk_162 0 83 (dk_at dksX1_comesBack_1 1 rfl rfl)
theorem dX1_comesBack_28 : decode cX1_comesBack 28 = .ok (.aload_n 2, 1) := dk_44 (dk_at dksX1_comesBack_1 4 rfl rfl)
theorem dX1_comesBack_29 : decode cX1_comesBack 29 = .ok (.getfield 124, 3) := dk_180 0 124 (dk_at dksX1_comesBack_1 5 rfl rfl)
theorem dX1_comesBack_32 : decode cX1_comesBack 32 = .ok (.ifCond .ne 76, 3) := dk_154 0 76 (dk_at dksX1_comesBack_1 8 rfl rfl)
theorem dX1_comesBack_35 : decode cX1_comesBack 35 = .ok (.aload_n 1, 1) := dk_43 (dk_at dksX1_comesBack_1 11 rfl rfl)
theorem dX1_comesBack_36 : decode cX1_comesBack 36 = .ok (.iconst 2, 1) := dk_5 (dk_at dksX1_comesBack_1 12 rfl rfl)
theorem dX1_comesBack_37 : decode cX1_comesBack 37 = .ok (.aload_n 2, 1) := dk_44 (dk_at dksX1_comesBack_1 13 rfl rfl)
theorem dX1_comesBack_38 : decode cX1_comesBack 38 = .ok (.iload_n 3, 1) := dk_29 (dk_at dksX1_comesBack_1 14 rfl rfl)
theorem dX1_comesBack_39 : decode cX1_comesBack 39 = .ok (.invokevirtual 145, 3) := dk_182 0 145 (dk_at dksX1_comesBack_1 15 rfl rfl)
theorem dX1_comesBack_42 : decode cX1_comesBack 42 = .ok (.imul, 1) := dk_104 (dk_at dksX1_comesBack_1 18 rfl rfl)
theorem dX1_comesBack_43 : decode cX1_comesBack 43 = .ok (.iload 6, 2) := dk_21 6 (dk_at dksX1_comesBack_1 19 rfl rfl)
theorem dX1_comesBack_45 : decode cX1_comesBack 45 = .ok (.iload 5, 2) := dk_21 5 (dk_at dksX1_comesBack_1 21 rfl rfl)
theorem dX1_comesBack_47 : decode cX1_comesBack 47 = .ok (.iadd, 1) := dk_96 (dk_at dksX1_comesBack_1 23 rfl rfl)
theorem dX1_comesBack_48 : decode cX1_comesBack 48 = .ok (.iconst 2, 1) := dk_5 (dk_at dksX1_comesBack_2 0 rfl rfl)
theorem dX1_comesBack_49 : decode cX1_comesBack 49 = .ok (.irem, 1) := dk_112 (dk_at dksX1_comesBack_2 1 rfl rfl)
theorem dX1_comesBack_50 : decode cX1_comesBack 50 = .ok (.iadd, 1) := dk_96 (dk_at dksX1_comesBack_2 2 rfl rfl)
theorem dX1_comesBack_51 : decode cX1_comesBack 51 = .ok (.iaload, 1) := dk_46 (dk_at dksX1_comesBack_2 3 rfl rfl)
theorem dX1_comesBack_52 : decode cX1_comesBack 52 = .ok (.istore 7, 2) := dk_54 7 (dk_at dksX1_comesBack_2 4 rfl rfl)
theorem dX1_comesBack_54 : decode cX1_comesBack 54 = .ok (.iload 4, 2) := dk_21 4 (dk_at dksX1_comesBack_2 6 rfl rfl)
theorem dX1_comesBack_56 : decode cX1_comesBack 56 = .ok (.iload 7, 2) := dk_21 7 (dk_at dksX1_comesBack_2 8 rfl rfl)
theorem dX1_comesBack_58 : decode cX1_comesBack 58 = .ok (.sipush 10000, 3) := dk_17 39 16 (dk_at dksX1_comesBack_2 10 rfl rfl)
theorem dX1_comesBack_61 : decode cX1_comesBack 61 = .ok (.if_icmp .ge 37, 3) := dk_162 0 37 (dk_at dksX1_comesBack_2 13 rfl rfl)
theorem dX1_comesBack_64 : decode cX1_comesBack 64 = .ok (.aload_n 2, 1) := dk_44 (dk_at dksX1_comesBack_2 16 rfl rfl)
theorem dX1_comesBack_65 : decode cX1_comesBack 65 = .ok (.iload 6, 2) := dk_21 6 (dk_at dksX1_comesBack_2 17 rfl rfl)
theorem dX1_comesBack_67 : decode cX1_comesBack 67 = .ok (.iload 5, 2) := dk_21 5 (dk_at dksX1_comesBack_2 19 rfl rfl)
theorem dX1_comesBack_69 : decode cX1_comesBack 69 = .ok (.iadd, 1) := dk_96 (dk_at dksX1_comesBack_2 21 rfl rfl)
theorem dX1_comesBack_70 : decode cX1_comesBack 70 = .ok (.invokevirtual 131, 3) := dk_182 0 131 (dk_at dksX1_comesBack_3 0 rfl rfl)
theorem dX1_comesBack_73 : decode cX1_comesBack 73 = .ok (.ifCond .eq 25, 3) := dk_153 0 25 (dk_at dksX1_comesBack_3 3 rfl rfl)
theorem dX1_comesBack_76 : decode cX1_comesBack 76 = .ok (.aload_n 1, 1) := dk_43 (dk_at dksX1_comesBack_3 6 rfl rfl)
theorem dX1_comesBack_77 : decode cX1_comesBack 77 = .ok (.iconst 2, 1) := dk_5 (dk_at dksX1_comesBack_3 7 rfl rfl)
theorem dX1_comesBack_78 : decode cX1_comesBack 78 = .ok (.iload_n 3, 1) := dk_29 (dk_at dksX1_comesBack_3 8 rfl rfl)
theorem dX1_comesBack_79 : decode cX1_comesBack 79 = .ok (.imul, 1) := dk_104 (dk_at dksX1_comesBack_3 9 rfl rfl)
theorem dX1_comesBack_80 : decode cX1_comesBack 80 = .ok (.iload 6, 2) := dk_21 6 (dk_at dksX1_comesBack_3 10 rfl rfl)
theorem dX1_comesBack_82 : decode cX1_comesBack 82 = .ok (.iadd, 1) := dk_96 (dk_at dksX1_comesBack_3 12 rfl rfl)
theorem dX1_comesBack_83 : decode cX1_comesBack 83 = .ok (.iload 7, 2) := dk_21 7 (dk_at dksX1_comesBack_3 13 rfl rfl)
theorem dX1_comesBack_85 : decode cX1_comesBack 85 = .ok (.iload 5, 2) := dk_21 5 (dk_at dksX1_comesBack_3 15 rfl rfl)
theorem dX1_comesBack_87 : decode cX1_comesBack 87 = .ok (.iadd, 1) := dk_96 (dk_at dksX1_comesBack_3 17 rfl rfl)
theorem dX1_comesBack_88 : decode cX1_comesBack 88 = .ok (.invokestatic 256, 3) := dk_184 1 0 (dk_at dksX1_comesBack_3 18 rfl rfl)
theorem dX1_comesBack_91 : decode cX1_comesBack 91 = .ok (.ifCond .eq 7, 3) := dk_153 0 7 (dk_at dksX1_comesBack_3 21 rfl rfl)
theorem dX1_comesBack_94 : decode cX1_comesBack 94 = .ok (.iconst 1, 1) := dk_4 (dk_at dksX1_comesBack_4 0 rfl rfl)
theorem dX1_comesBack_95 : decode cX1_comesBack 95 = .ok (.goto 4, 3) := dk_167 0 4 (dk_at dksX1_comesBack_4 1 rfl rfl)
theorem dX1_comesBack_98 : decode cX1_comesBack 98 = .ok (.iconst 0, 1) := dk_3 (dk_at dksX1_comesBack_4 4 rfl rfl)
theorem dX1_comesBack_99 : decode cX1_comesBack 99 = .ok (.ior, 1) := dk_128 (dk_at dksX1_comesBack_4 5 rfl rfl)
theorem dX1_comesBack_100 : decode cX1_comesBack 100 = .ok (.istore 4, 2) := dk_54 4 (dk_at dksX1_comesBack_4 6 rfl rfl)
theorem dX1_comesBack_102 : decode cX1_comesBack 102 = .ok (.iinc 6 1, 3) := dk_132 6 1 (dk_at dksX1_comesBack_4 8 rfl rfl)
theorem dX1_comesBack_105 : decode cX1_comesBack 105 = .ok (.goto (-83), 3) := dk_167 255 173 (dk_at dksX1_comesBack_4 11 rfl rfl)
theorem dX1_comesBack_108 : decode cX1_comesBack 108 = .ok (.iload 4, 2) := dk_21 4 (dk_at dksX1_comesBack_4 14 rfl rfl)
theorem dX1_comesBack_110 : decode cX1_comesBack 110 = .ok (.ireturn, 1) := dk_172 (dk_at dksX1_comesBack_4 16 rfl rfl)
abbrev cX1_next : ByteArray := prog_4_method_35_code
def yX1_next : MethodName := ⟨RX1, "next", "(LParityMaze$Spot;[I)LParityMaze$Spot;"⟩
def dkwX1_next_3 : List UInt8 := [96, 44, 43, 182, 1, 8, 46, 160, 0, 6, 25, 5, 176, 167, 255, 180, 43, 4, 182, 0, 211, 176]
abbrev dktX1_next_3 : List UInt8 := dkwX1_next_3 ++ []
def dkwX1_next_2 : List UInt8 := [44, 25, 5, 182, 1, 8, 46, 42, 180, 0, 14, 43, 180, 0, 172, 182, 0, 90, 192, 0, 42, 182, 0, 122]
abbrev dktX1_next_2 : List UInt8 := dkwX1_next_2 ++ dktX1_next_3
def dkwX1_next_1 : List UInt8 := [192, 0, 52, 58, 4, 42, 43, 25, 4, 182, 0, 215, 153, 0, 49, 42, 43, 25, 4, 182, 0, 219, 58, 5]
abbrev dktX1_next_1 : List UInt8 := dkwX1_next_1 ++ dktX1_next_2
def dkwX1_next_0 : List UInt8 := [42, 180, 0, 20, 182, 0, 28, 78, 45, 185, 0, 32, 1, 0, 153, 0, 73, 45, 185, 0, 38, 1, 0]
abbrev dktX1_next_0 : List UInt8 := dkwX1_next_0 ++ dktX1_next_1
theorem dksX1_next_0 : cX1_next.data.toList.drop 0 = dktX1_next_0 := by decide +kernel
theorem dksX1_next_1 : cX1_next.data.toList.drop 23 = dktX1_next_1 := dk_seg dksX1_next_0 23 rfl rfl
theorem dksX1_next_2 : cX1_next.data.toList.drop 47 = dktX1_next_2 := dk_seg dksX1_next_1 24 rfl rfl
theorem dksX1_next_3 : cX1_next.data.toList.drop 71 = dktX1_next_3 := dk_seg dksX1_next_2 24 rfl rfl
theorem dX1_next_0 : decode cX1_next 0 = .ok (.aload_n 0, 1) := dk_42 (dk_at dksX1_next_0 0 rfl rfl)
theorem dX1_next_1 : decode cX1_next 1 = .ok (.getfield 20, 3) := dk_180 0 20 (dk_at dksX1_next_0 1 rfl rfl)
theorem dX1_next_4 : decode cX1_next 4 = .ok (.invokevirtual 28, 3) := dk_182 0 28 (dk_at dksX1_next_0 4 rfl rfl)
theorem dX1_next_7 : decode cX1_next 7 = .ok (.astore_n 3, 1) := dk_78 (dk_at dksX1_next_0 7 rfl rfl)
theorem dX1_next_8 : decode cX1_next 8 = .ok (.aload_n 3, 1) := dk_45 (dk_at dksX1_next_0 8 rfl rfl)
theorem dX1_next_9 : decode cX1_next 9 = .ok (.invokeinterface 32 1, 5) := by decide +kernel
theorem dX1_next_14 : decode cX1_next 14 = .ok (.ifCond .eq 73, 3) := dk_153 0 73 (dk_at dksX1_next_0 14 rfl rfl)
theorem dX1_next_17 : decode cX1_next 17 = .ok (.aload_n 3, 1) := dk_45 (dk_at dksX1_next_0 17 rfl rfl)
theorem dX1_next_18 : decode cX1_next 18 = .ok (.invokeinterface 38 1, 5) := by decide +kernel
theorem dX1_next_23 : decode cX1_next 23 = .ok (.checkcast 52, 3) := dk_192 0 52 (dk_at dksX1_next_1 0 rfl rfl)
theorem dX1_next_26 : decode cX1_next 26 = .ok (.astore 4, 2) := dk_58 4 (dk_at dksX1_next_1 3 rfl rfl)
theorem dX1_next_28 : decode cX1_next 28 = .ok (.aload_n 0, 1) := dk_42 (dk_at dksX1_next_1 5 rfl rfl)
theorem dX1_next_29 : decode cX1_next 29 = .ok (.aload_n 1, 1) := dk_43 (dk_at dksX1_next_1 6 rfl rfl)
theorem dX1_next_30 : decode cX1_next 30 = .ok (.aload 4, 2) := dk_25 4 (dk_at dksX1_next_1 7 rfl rfl)
theorem dX1_next_32 : decode cX1_next 32 = .ok (.invokevirtual 215, 3) := dk_182 0 215 (dk_at dksX1_next_1 9 rfl rfl)
theorem dX1_next_35 : decode cX1_next 35 = .ok (.ifCond .eq 49, 3) := dk_153 0 49 (dk_at dksX1_next_1 12 rfl rfl)
theorem dX1_next_38 : decode cX1_next 38 = .ok (.aload_n 0, 1) := dk_42 (dk_at dksX1_next_1 15 rfl rfl)
theorem dX1_next_39 : decode cX1_next 39 = .ok (.aload_n 1, 1) := dk_43 (dk_at dksX1_next_1 16 rfl rfl)
theorem dX1_next_40 : decode cX1_next 40 = .ok (.aload 4, 2) := dk_25 4 (dk_at dksX1_next_1 17 rfl rfl)
theorem dX1_next_42 : decode cX1_next 42 = .ok (.invokevirtual 219, 3) := dk_182 0 219 (dk_at dksX1_next_1 19 rfl rfl)
theorem dX1_next_45 : decode cX1_next 45 = .ok (.astore 5, 2) := dk_58 5 (dk_at dksX1_next_1 22 rfl rfl)
theorem dX1_next_47 : decode cX1_next 47 = .ok (.aload_n 2, 1) := dk_44 (dk_at dksX1_next_2 0 rfl rfl)
theorem dX1_next_48 : decode cX1_next 48 = .ok (.aload 5, 2) := dk_25 5 (dk_at dksX1_next_2 1 rfl rfl)
theorem dX1_next_50 : decode cX1_next 50 = .ok (.invokevirtual 264, 3) := dk_182 1 8 (dk_at dksX1_next_2 3 rfl rfl)
theorem dX1_next_53 : decode cX1_next 53 = .ok (.iaload, 1) := dk_46 (dk_at dksX1_next_2 6 rfl rfl)
theorem dX1_next_54 : decode cX1_next 54 = .ok (.aload_n 0, 1) := dk_42 (dk_at dksX1_next_2 7 rfl rfl)
theorem dX1_next_55 : decode cX1_next 55 = .ok (.getfield 14, 3) := dk_180 0 14 (dk_at dksX1_next_2 8 rfl rfl)
theorem dX1_next_58 : decode cX1_next 58 = .ok (.aload_n 1, 1) := dk_43 (dk_at dksX1_next_2 11 rfl rfl)
theorem dX1_next_59 : decode cX1_next 59 = .ok (.getfield 172, 3) := dk_180 0 172 (dk_at dksX1_next_2 12 rfl rfl)
theorem dX1_next_62 : decode cX1_next 62 = .ok (.invokevirtual 90, 3) := dk_182 0 90 (dk_at dksX1_next_2 15 rfl rfl)
theorem dX1_next_65 : decode cX1_next 65 = .ok (.checkcast 42, 3) := dk_192 0 42 (dk_at dksX1_next_2 18 rfl rfl)
theorem dX1_next_68 : decode cX1_next 68 = .ok (.invokevirtual 122, 3) := dk_182 0 122 (dk_at dksX1_next_2 21 rfl rfl)
theorem dX1_next_71 : decode cX1_next 71 = .ok (.iadd, 1) := dk_96 (dk_at dksX1_next_3 0 rfl rfl)
theorem dX1_next_72 : decode cX1_next 72 = .ok (.aload_n 2, 1) := dk_44 (dk_at dksX1_next_3 1 rfl rfl)
theorem dX1_next_73 : decode cX1_next 73 = .ok (.aload_n 1, 1) := dk_43 (dk_at dksX1_next_3 2 rfl rfl)
theorem dX1_next_74 : decode cX1_next 74 = .ok (.invokevirtual 264, 3) := dk_182 1 8 (dk_at dksX1_next_3 3 rfl rfl)
theorem dX1_next_77 : decode cX1_next 77 = .ok (.iaload, 1) := dk_46 (dk_at dksX1_next_3 6 rfl rfl)
theorem dX1_next_78 : decode cX1_next 78 = .ok (.if_icmp .ne 6, 3) := dk_160 0 6 (dk_at dksX1_next_3 7 rfl rfl)
theorem dX1_next_81 : decode cX1_next 81 = .ok (.aload 5, 2) := dk_25 5 (dk_at dksX1_next_3 10 rfl rfl)
theorem dX1_next_83 : decode cX1_next 83 = .ok (.areturn, 1) := dk_176 (dk_at dksX1_next_3 12 rfl rfl)
theorem dX1_next_84 : decode cX1_next 84 = .ok (.goto (-76), 3) := dk_167 255 180 (dk_at dksX1_next_3 13 rfl rfl)
theorem dX1_next_87 : decode cX1_next 87 = .ok (.aload_n 1, 1) := dk_43 (dk_at dksX1_next_3 16 rfl rfl)
theorem dX1_next_88 : decode cX1_next 88 = .ok (.iconst 1, 1) := dk_4 (dk_at dksX1_next_3 17 rfl rfl)
theorem dX1_next_89 : decode cX1_next 89 = .ok (.invokevirtual 211, 3) := dk_182 0 211 (dk_at dksX1_next_3 18 rfl rfl)
theorem dX1_next_92 : decode cX1_next 92 = .ok (.areturn, 1) := dk_176 (dk_at dksX1_next_3 21 rfl rfl)
abbrev cX1_longerBack : ByteArray := prog_4_method_36_code
def yX1_longerBack : MethodName := ⟨RX1, "longerBack", "(III)I"⟩
def dkwX1_longerBack_1 : List UInt8 := [28, 27, 29, 21, 4, 96, 5, 112, 182, 1, 17, 21, 4, 100, 172]
abbrev dktX1_longerBack_1 : List UInt8 := dkwX1_longerBack_1 ++ []
def dkwX1_longerBack_0 : List UInt8 := [42, 27, 28, 29, 182, 1, 17, 54, 4, 21, 4, 17, 252, 9, 160, 0, 9, 17, 252, 9, 167, 0, 18, 42]
abbrev dktX1_longerBack_0 : List UInt8 := dkwX1_longerBack_0 ++ dktX1_longerBack_1
theorem dksX1_longerBack_0 : cX1_longerBack.data.toList.drop 0 = dktX1_longerBack_0 := by decide +kernel
theorem dksX1_longerBack_1 : cX1_longerBack.data.toList.drop 24 = dktX1_longerBack_1 := dk_seg dksX1_longerBack_0 24 rfl rfl
theorem dX1_longerBack_0 : decode cX1_longerBack 0 = .ok (.aload_n 0, 1) := dk_42 (dk_at dksX1_longerBack_0 0 rfl rfl)
theorem dX1_longerBack_1 : decode cX1_longerBack 1 = .ok (.iload_n 1, 1) := dk_27 (dk_at dksX1_longerBack_0 1 rfl rfl)
theorem dX1_longerBack_2 : decode cX1_longerBack 2 = .ok (.iload_n 2, 1) := dk_28 (dk_at dksX1_longerBack_0 2 rfl rfl)
theorem dX1_longerBack_3 : decode cX1_longerBack 3 = .ok (.iload_n 3, 1) := dk_29 (dk_at dksX1_longerBack_0 3 rfl rfl)
theorem dX1_longerBack_4 : decode cX1_longerBack 4 = .ok (.invokevirtual 273, 3) := dk_182 1 17 (dk_at dksX1_longerBack_0 4 rfl rfl)
theorem dX1_longerBack_7 : decode cX1_longerBack 7 = .ok (.istore 4, 2) := dk_54 4 (dk_at dksX1_longerBack_0 7 rfl rfl)
theorem dX1_longerBack_9 : decode cX1_longerBack 9 = .ok (.iload 4, 2) := dk_21 4 (dk_at dksX1_longerBack_0 9 rfl rfl)
theorem dX1_longerBack_11 : decode cX1_longerBack 11 = .ok (.sipush (-1015), 3) := dk_17 252 9 (dk_at dksX1_longerBack_0 11 rfl rfl)
theorem dX1_longerBack_14 : decode cX1_longerBack 14 = .ok (.if_icmp .ne 9, 3) := dk_160 0 9 (dk_at dksX1_longerBack_0 14 rfl rfl)
theorem dX1_longerBack_17 : decode cX1_longerBack 17 = .ok (.sipush (-1015), 3) := dk_17 252 9 (dk_at dksX1_longerBack_0 17 rfl rfl)
theorem dX1_longerBack_20 : decode cX1_longerBack 20 = .ok (.goto 18, 3) := dk_167 0 18 (dk_at dksX1_longerBack_0 20 rfl rfl)
theorem dX1_longerBack_23 : decode cX1_longerBack 23 = .ok (.aload_n 0, 1) := dk_42 (dk_at dksX1_longerBack_0 23 rfl rfl)
theorem dX1_longerBack_24 : decode cX1_longerBack 24 = .ok (.iload_n 2, 1) := dk_28 (dk_at dksX1_longerBack_1 0 rfl rfl)
theorem dX1_longerBack_25 : decode cX1_longerBack 25 = .ok (.iload_n 1, 1) := dk_27 (dk_at dksX1_longerBack_1 1 rfl rfl)
theorem dX1_longerBack_26 : decode cX1_longerBack 26 = .ok (.iload_n 3, 1) := dk_29 (dk_at dksX1_longerBack_1 2 rfl rfl)
theorem dX1_longerBack_27 : decode cX1_longerBack 27 = .ok (.iload 4, 2) := dk_21 4 (dk_at dksX1_longerBack_1 3 rfl rfl)
theorem dX1_longerBack_29 : decode cX1_longerBack 29 = .ok (.iadd, 1) := dk_96 (dk_at dksX1_longerBack_1 5 rfl rfl)
theorem dX1_longerBack_30 : decode cX1_longerBack 30 = .ok (.iconst 2, 1) := dk_5 (dk_at dksX1_longerBack_1 6 rfl rfl)
theorem dX1_longerBack_31 : decode cX1_longerBack 31 = .ok (.irem, 1) := dk_112 (dk_at dksX1_longerBack_1 7 rfl rfl)
theorem dX1_longerBack_32 : decode cX1_longerBack 32 = .ok (.invokevirtual 273, 3) := dk_182 1 17 (dk_at dksX1_longerBack_1 8 rfl rfl)
theorem dX1_longerBack_35 : decode cX1_longerBack 35 = .ok (.iload 4, 2) := dk_21 4 (dk_at dksX1_longerBack_1 11 rfl rfl)
theorem dX1_longerBack_37 : decode cX1_longerBack 37 = .ok (.isub, 1) := dk_100 (dk_at dksX1_longerBack_1 13 rfl rfl)
theorem dX1_longerBack_38 : decode cX1_longerBack 38 = .ok (.ireturn, 1) := dk_172 (dk_at dksX1_longerBack_1 14 rfl rfl)
abbrev cX1_reach : ByteArray := prog_4_method_38_code
def yX1_reach : MethodName := ⟨RX1, "reach", "()I"⟩
def dkwX1_reach_2 : List UInt8 := [180, 0, 172, 120, 128, 60, 167, 255, 228, 27, 172]
abbrev dktX1_reach_2 : List UInt8 := dkwX1_reach_2 ++ []
def dkwX1_reach_1 : List UInt8 := [77, 44, 185, 0, 32, 1, 0, 153, 0, 25, 44, 185, 0, 38, 1, 0, 192, 0, 173, 78, 27, 4, 45]
abbrev dktX1_reach_1 : List UInt8 := dkwX1_reach_1 ++ dktX1_reach_2
def dkwX1_reach_0 : List UInt8 := [3, 60, 42, 180, 0, 14, 182, 0, 156, 154, 0, 47, 42, 182, 1, 21, 182, 1, 25, 185, 1, 29, 1, 0]
abbrev dktX1_reach_0 : List UInt8 := dkwX1_reach_0 ++ dktX1_reach_1
theorem dksX1_reach_0 : cX1_reach.data.toList.drop 0 = dktX1_reach_0 := by decide +kernel
theorem dksX1_reach_1 : cX1_reach.data.toList.drop 24 = dktX1_reach_1 := dk_seg dksX1_reach_0 24 rfl rfl
theorem dksX1_reach_2 : cX1_reach.data.toList.drop 47 = dktX1_reach_2 := dk_seg dksX1_reach_1 23 rfl rfl
theorem dX1_reach_0 : decode cX1_reach 0 = .ok (.iconst 0, 1) := dk_3 (dk_at dksX1_reach_0 0 rfl rfl)
theorem dX1_reach_1 : decode cX1_reach 1 = .ok (.istore_n 1, 1) := dk_60 (dk_at dksX1_reach_0 1 rfl rfl)
theorem dX1_reach_2 : decode cX1_reach 2 = .ok (.aload_n 0, 1) := dk_42 (dk_at dksX1_reach_0 2 rfl rfl)
theorem dX1_reach_3 : decode cX1_reach 3 = .ok (.getfield 14, 3) := dk_180 0 14 (dk_at dksX1_reach_0 3 rfl rfl)
theorem dX1_reach_6 : decode cX1_reach 6 = .ok (.invokevirtual 156, 3) := dk_182 0 156 (dk_at dksX1_reach_0 6 rfl rfl)
theorem dX1_reach_9 : decode cX1_reach 9 = .ok (.ifCond .ne 47, 3) := dk_154 0 47 (dk_at dksX1_reach_0 9 rfl rfl)
theorem dX1_reach_12 : decode cX1_reach 12 = .ok (.aload_n 0, 1) := dk_42 (dk_at dksX1_reach_0 12 rfl rfl)
theorem dX1_reach_13 : decode cX1_reach 13 = .ok (.invokevirtual 277, 3) := dk_182 1 21 (dk_at dksX1_reach_0 13 rfl rfl)
theorem dX1_reach_16 : decode cX1_reach 16 = .ok (.invokevirtual 281, 3) := dk_182 1 25 (dk_at dksX1_reach_0 16 rfl rfl)
theorem dX1_reach_19 : decode cX1_reach 19 = .ok (.invokeinterface 285 1, 5) := by decide +kernel
theorem dX1_reach_24 : decode cX1_reach 24 = .ok (.astore_n 2, 1) := dk_77 (dk_at dksX1_reach_1 0 rfl rfl)
theorem dX1_reach_25 : decode cX1_reach 25 = .ok (.aload_n 2, 1) := dk_44 (dk_at dksX1_reach_1 1 rfl rfl)
theorem dX1_reach_26 : decode cX1_reach 26 = .ok (.invokeinterface 32 1, 5) := by decide +kernel
theorem dX1_reach_31 : decode cX1_reach 31 = .ok (.ifCond .eq 25, 3) := dk_153 0 25 (dk_at dksX1_reach_1 7 rfl rfl)
theorem dX1_reach_34 : decode cX1_reach 34 = .ok (.aload_n 2, 1) := dk_44 (dk_at dksX1_reach_1 10 rfl rfl)
theorem dX1_reach_35 : decode cX1_reach 35 = .ok (.invokeinterface 38 1, 5) := by decide +kernel
theorem dX1_reach_40 : decode cX1_reach 40 = .ok (.checkcast 173, 3) := dk_192 0 173 (dk_at dksX1_reach_1 16 rfl rfl)
theorem dX1_reach_43 : decode cX1_reach 43 = .ok (.astore_n 3, 1) := dk_78 (dk_at dksX1_reach_1 19 rfl rfl)
theorem dX1_reach_44 : decode cX1_reach 44 = .ok (.iload_n 1, 1) := dk_27 (dk_at dksX1_reach_1 20 rfl rfl)
theorem dX1_reach_45 : decode cX1_reach 45 = .ok (.iconst 1, 1) := dk_4 (dk_at dksX1_reach_1 21 rfl rfl)
theorem dX1_reach_46 : decode cX1_reach 46 = .ok (.aload_n 3, 1) := dk_45 (dk_at dksX1_reach_1 22 rfl rfl)
theorem dX1_reach_47 : decode cX1_reach 47 = .ok (.getfield 172, 3) := dk_180 0 172 (dk_at dksX1_reach_2 0 rfl rfl)
theorem dX1_reach_50 : decode cX1_reach 50 = .ok (.ishl, 1) := dk_120 (dk_at dksX1_reach_2 3 rfl rfl)
theorem dX1_reach_51 : decode cX1_reach 51 = .ok (.ior, 1) := dk_128 (dk_at dksX1_reach_2 4 rfl rfl)
theorem dX1_reach_52 : decode cX1_reach 52 = .ok (.istore_n 1, 1) := dk_60 (dk_at dksX1_reach_2 5 rfl rfl)
theorem dX1_reach_53 : decode cX1_reach 53 = .ok (.goto (-28), 3) := dk_167 255 228 (dk_at dksX1_reach_2 6 rfl rfl)
theorem dX1_reach_56 : decode cX1_reach 56 = .ok (.iload_n 1, 1) := dk_27 (dk_at dksX1_reach_2 9 rfl rfl)
theorem dX1_reach_57 : decode cX1_reach 57 = .ok (.ireturn, 1) := dk_172 (dk_at dksX1_reach_2 10 rfl rfl)
abbrev cX1_nearWalker : ByteArray := prog_4_method_37_code
def yX1_nearWalker : MethodName := ⟨RX1, "nearWalker", "()Ljava/util/LinkedHashMap;"⟩
def dkwX1_nearWalker_0 : List UInt8 := [42, 187, 0, 173, 89, 42, 180, 0, 54, 42, 180, 0, 58, 5, 112, 183, 0, 222, 182, 0, 234, 176]
abbrev dktX1_nearWalker_0 : List UInt8 := dkwX1_nearWalker_0 ++ []
theorem dksX1_nearWalker_0 : cX1_nearWalker.data.toList.drop 0 = dktX1_nearWalker_0 := by decide +kernel
theorem dX1_nearWalker_0 : decode cX1_nearWalker 0 = .ok (.aload_n 0, 1) := dk_42 (dk_at dksX1_nearWalker_0 0 rfl rfl)
theorem dX1_nearWalker_1 : decode cX1_nearWalker 1 = .ok (.new 173, 3) := dk_187 0 173 (dk_at dksX1_nearWalker_0 1 rfl rfl)
theorem dX1_nearWalker_4 : decode cX1_nearWalker 4 = .ok (.dup, 1) := dk_89 (dk_at dksX1_nearWalker_0 4 rfl rfl)
theorem dX1_nearWalker_5 : decode cX1_nearWalker 5 = .ok (.aload_n 0, 1) := dk_42 (dk_at dksX1_nearWalker_0 5 rfl rfl)
theorem dX1_nearWalker_6 : decode cX1_nearWalker 6 = .ok (.getfield 54, 3) := dk_180 0 54 (dk_at dksX1_nearWalker_0 6 rfl rfl)
theorem dX1_nearWalker_9 : decode cX1_nearWalker 9 = .ok (.aload_n 0, 1) := dk_42 (dk_at dksX1_nearWalker_0 9 rfl rfl)
theorem dX1_nearWalker_10 : decode cX1_nearWalker 10 = .ok (.getfield 58, 3) := dk_180 0 58 (dk_at dksX1_nearWalker_0 10 rfl rfl)
theorem dX1_nearWalker_13 : decode cX1_nearWalker 13 = .ok (.iconst 2, 1) := dk_5 (dk_at dksX1_nearWalker_0 13 rfl rfl)
theorem dX1_nearWalker_14 : decode cX1_nearWalker 14 = .ok (.irem, 1) := dk_112 (dk_at dksX1_nearWalker_0 14 rfl rfl)
theorem dX1_nearWalker_15 : decode cX1_nearWalker 15 = .ok (.invokespecial 222, 3) := dk_183 0 222 (dk_at dksX1_nearWalker_0 15 rfl rfl)
theorem dX1_nearWalker_18 : decode cX1_nearWalker 18 = .ok (.invokevirtual 234, 3) := dk_182 0 234 (dk_at dksX1_nearWalker_0 18 rfl rfl)
theorem dX1_nearWalker_21 : decode cX1_nearWalker 21 = .ok (.areturn, 1) := dk_176 (dk_at dksX1_nearWalker_0 21 rfl rfl)
abbrev cX1_nearestKey : ByteArray := prog_4_method_39_code
def yX1_nearestKey : MethodName := ⟨RX1, "nearestKey", "(I)I"⟩
def dkwX1_nearestKey_4 : List UInt8 := [21, 4, 167, 0, 4, 29, 62, 132, 4, 1, 167, 255, 178, 29, 172]
abbrev dktX1_nearestKey_4 : List UInt8 := dkwX1_nearestKey_4 ++ []
def dkwX1_nearestKey_3 : List UInt8 := [17, 252, 9, 159, 0, 25, 29, 17, 252, 9, 159, 0, 13, 21, 5, 44, 29, 184, 0, 238, 162, 0, 8]
abbrev dktX1_nearestKey_3 : List UInt8 := dkwX1_nearestKey_3 ++ dktX1_nearestKey_4
def dkwX1_nearestKey_2 : List UInt8 := [180, 0, 105, 27, 46, 154, 0, 9, 17, 252, 9, 167, 0, 9, 44, 21, 4, 184, 0, 238, 54, 5, 21, 5]
abbrev dktX1_nearestKey_2 : List UInt8 := dkwX1_nearestKey_2 ++ dktX1_nearestKey_3
def dkwX1_nearestKey_1 : List UInt8 := [54, 4, 21, 4, 42, 182, 0, 74, 162, 0, 75, 42, 180, 0, 14, 21, 4, 182, 0, 90, 192, 0, 42]
abbrev dktX1_nearestKey_1 : List UInt8 := dkwX1_nearestKey_1 ++ dktX1_nearestKey_2
def dkwX1_nearestKey_0 : List UInt8 := [42, 180, 0, 14, 182, 0, 156, 153, 0, 7, 17, 252, 9, 172, 42, 182, 1, 21, 77, 17, 252, 9, 62, 3]
abbrev dktX1_nearestKey_0 : List UInt8 := dkwX1_nearestKey_0 ++ dktX1_nearestKey_1
theorem dksX1_nearestKey_0 : cX1_nearestKey.data.toList.drop 0 = dktX1_nearestKey_0 := by decide +kernel
theorem dksX1_nearestKey_1 : cX1_nearestKey.data.toList.drop 24 = dktX1_nearestKey_1 := dk_seg dksX1_nearestKey_0 24 rfl rfl
theorem dksX1_nearestKey_2 : cX1_nearestKey.data.toList.drop 47 = dktX1_nearestKey_2 := dk_seg dksX1_nearestKey_1 23 rfl rfl
theorem dksX1_nearestKey_3 : cX1_nearestKey.data.toList.drop 71 = dktX1_nearestKey_3 := dk_seg dksX1_nearestKey_2 24 rfl rfl
theorem dksX1_nearestKey_4 : cX1_nearestKey.data.toList.drop 94 = dktX1_nearestKey_4 := dk_seg dksX1_nearestKey_3 23 rfl rfl
theorem dX1_nearestKey_0 : decode cX1_nearestKey 0 = .ok (.aload_n 0, 1) := dk_42 (dk_at dksX1_nearestKey_0 0 rfl rfl)
theorem dX1_nearestKey_1 : decode cX1_nearestKey 1 = .ok (.getfield 14, 3) := dk_180 0 14 (dk_at dksX1_nearestKey_0 1 rfl rfl)
theorem dX1_nearestKey_4 : decode cX1_nearestKey 4 = .ok (.invokevirtual 156, 3) := dk_182 0 156 (dk_at dksX1_nearestKey_0 4 rfl rfl)
theorem dX1_nearestKey_7 : decode cX1_nearestKey 7 = .ok (.ifCond .eq 7, 3) := dk_153 0 7 (dk_at dksX1_nearestKey_0 7 rfl rfl)
theorem dX1_nearestKey_10 : decode cX1_nearestKey 10 = .ok (.sipush (-1015), 3) := dk_17 252 9 (dk_at dksX1_nearestKey_0 10 rfl rfl)
theorem dX1_nearestKey_13 : decode cX1_nearestKey 13 = .ok (.ireturn, 1) := dk_172 (dk_at dksX1_nearestKey_0 13 rfl rfl)
theorem dX1_nearestKey_14 : decode cX1_nearestKey 14 = .ok (.aload_n 0, 1) := dk_42 (dk_at dksX1_nearestKey_0 14 rfl rfl)
theorem dX1_nearestKey_15 : decode cX1_nearestKey 15 = .ok (.invokevirtual 277, 3) := dk_182 1 21 (dk_at dksX1_nearestKey_0 15 rfl rfl)
theorem dX1_nearestKey_18 : decode cX1_nearestKey 18 = .ok (.astore_n 2, 1) := dk_77 (dk_at dksX1_nearestKey_0 18 rfl rfl)
theorem dX1_nearestKey_19 : decode cX1_nearestKey 19 = .ok (.sipush (-1015), 3) := dk_17 252 9 (dk_at dksX1_nearestKey_0 19 rfl rfl)
theorem dX1_nearestKey_22 : decode cX1_nearestKey 22 = .ok (.istore_n 3, 1) := dk_62 (dk_at dksX1_nearestKey_0 22 rfl rfl)
theorem dX1_nearestKey_23 : decode cX1_nearestKey 23 = .ok (.iconst 0, 1) := dk_3 (dk_at dksX1_nearestKey_0 23 rfl rfl)
theorem dX1_nearestKey_24 : decode cX1_nearestKey 24 = .ok (.istore 4, 2) := dk_54 4 (dk_at dksX1_nearestKey_1 0 rfl rfl)
theorem dX1_nearestKey_26 : decode cX1_nearestKey 26 = .ok (.iload 4, 2) := dk_21 4 (dk_at dksX1_nearestKey_1 2 rfl rfl)
theorem dX1_nearestKey_28 : decode cX1_nearestKey 28 = .ok (.aload_n 0, 1) := dk_42 (dk_at dksX1_nearestKey_1 4 rfl rfl)
theorem dX1_nearestKey_29 : decode cX1_nearestKey 29 = .ok (.invokevirtual 74, 3) := dk_182 0 74 (dk_at dksX1_nearestKey_1 5 rfl rfl)
theorem dX1_nearestKey_32 : decode cX1_nearestKey 32 = .ok (.if_icmp .ge 75, 3) := dk_162 0 75 (dk_at dksX1_nearestKey_1 8 rfl rfl)
theorem dX1_nearestKey_35 : decode cX1_nearestKey 35 = .ok (.aload_n 0, 1) := dk_42 (dk_at dksX1_nearestKey_1 11 rfl rfl)
theorem dX1_nearestKey_36 : decode cX1_nearestKey 36 = .ok (.getfield 14, 3) := dk_180 0 14 (dk_at dksX1_nearestKey_1 12 rfl rfl)
theorem dX1_nearestKey_39 : decode cX1_nearestKey 39 = .ok (.iload 4, 2) := dk_21 4 (dk_at dksX1_nearestKey_1 15 rfl rfl)
theorem dX1_nearestKey_41 : decode cX1_nearestKey 41 = .ok (.invokevirtual 90, 3) := dk_182 0 90 (dk_at dksX1_nearestKey_1 17 rfl rfl)
theorem dX1_nearestKey_44 : decode cX1_nearestKey 44 = .ok (.checkcast 42, 3) := dk_192 0 42 (dk_at dksX1_nearestKey_1 20 rfl rfl)
theorem dX1_nearestKey_47 : decode cX1_nearestKey 47 = .ok (.getfield 105, 3) := dk_180 0 105 (dk_at dksX1_nearestKey_2 0 rfl rfl)
theorem dX1_nearestKey_50 : decode cX1_nearestKey 50 = .ok (.iload_n 1, 1) := dk_27 (dk_at dksX1_nearestKey_2 3 rfl rfl)
theorem dX1_nearestKey_51 : decode cX1_nearestKey 51 = .ok (.iaload, 1) := dk_46 (dk_at dksX1_nearestKey_2 4 rfl rfl)
theorem dX1_nearestKey_52 : decode cX1_nearestKey 52 = .ok (.ifCond .ne 9, 3) := dk_154 0 9 (dk_at dksX1_nearestKey_2 5 rfl rfl)
theorem dX1_nearestKey_55 : decode cX1_nearestKey 55 = .ok (.sipush (-1015), 3) := dk_17 252 9 (dk_at dksX1_nearestKey_2 8 rfl rfl)
theorem dX1_nearestKey_58 : decode cX1_nearestKey 58 = .ok (.goto 9, 3) := dk_167 0 9 (dk_at dksX1_nearestKey_2 11 rfl rfl)
theorem dX1_nearestKey_61 : decode cX1_nearestKey 61 = .ok (.aload_n 2, 1) := dk_44 (dk_at dksX1_nearestKey_2 14 rfl rfl)
theorem dX1_nearestKey_62 : decode cX1_nearestKey 62 = .ok (.iload 4, 2) := dk_21 4 (dk_at dksX1_nearestKey_2 15 rfl rfl)
theorem dX1_nearestKey_64 : decode cX1_nearestKey 64 = .ok (.invokestatic 238, 3) := dk_184 0 238 (dk_at dksX1_nearestKey_2 17 rfl rfl)
theorem dX1_nearestKey_67 : decode cX1_nearestKey 67 = .ok (.istore 5, 2) := dk_54 5 (dk_at dksX1_nearestKey_2 20 rfl rfl)
theorem dX1_nearestKey_69 : decode cX1_nearestKey 69 = .ok (.iload 5, 2) := dk_21 5 (dk_at dksX1_nearestKey_2 22 rfl rfl)
theorem dX1_nearestKey_71 : decode cX1_nearestKey 71 = .ok (.sipush (-1015), 3) := dk_17 252 9 (dk_at dksX1_nearestKey_3 0 rfl rfl)
theorem dX1_nearestKey_74 : decode cX1_nearestKey 74 = .ok (.if_icmp .eq 25, 3) := dk_159 0 25 (dk_at dksX1_nearestKey_3 3 rfl rfl)
theorem dX1_nearestKey_77 : decode cX1_nearestKey 77 = .ok (.iload_n 3, 1) := dk_29 (dk_at dksX1_nearestKey_3 6 rfl rfl)
theorem dX1_nearestKey_78 : decode cX1_nearestKey 78 = .ok (.sipush (-1015), 3) := dk_17 252 9 (dk_at dksX1_nearestKey_3 7 rfl rfl)
theorem dX1_nearestKey_81 : decode cX1_nearestKey 81 = .ok (.if_icmp .eq 13, 3) := dk_159 0 13 (dk_at dksX1_nearestKey_3 10 rfl rfl)
theorem dX1_nearestKey_84 : decode cX1_nearestKey 84 = .ok (.iload 5, 2) := dk_21 5 (dk_at dksX1_nearestKey_3 13 rfl rfl)
theorem dX1_nearestKey_86 : decode cX1_nearestKey 86 = .ok (.aload_n 2, 1) := dk_44 (dk_at dksX1_nearestKey_3 15 rfl rfl)
theorem dX1_nearestKey_87 : decode cX1_nearestKey 87 = .ok (.iload_n 3, 1) := dk_29 (dk_at dksX1_nearestKey_3 16 rfl rfl)
theorem dX1_nearestKey_88 : decode cX1_nearestKey 88 = .ok (.invokestatic 238, 3) := dk_184 0 238 (dk_at dksX1_nearestKey_3 17 rfl rfl)
theorem dX1_nearestKey_91 : decode cX1_nearestKey 91 = .ok (.if_icmp .ge 8, 3) := dk_162 0 8 (dk_at dksX1_nearestKey_3 20 rfl rfl)
theorem dX1_nearestKey_94 : decode cX1_nearestKey 94 = .ok (.iload 4, 2) := dk_21 4 (dk_at dksX1_nearestKey_4 0 rfl rfl)
theorem dX1_nearestKey_96 : decode cX1_nearestKey 96 = .ok (.goto 4, 3) := dk_167 0 4 (dk_at dksX1_nearestKey_4 2 rfl rfl)
theorem dX1_nearestKey_99 : decode cX1_nearestKey 99 = .ok (.iload_n 3, 1) := dk_29 (dk_at dksX1_nearestKey_4 5 rfl rfl)
theorem dX1_nearestKey_100 : decode cX1_nearestKey 100 = .ok (.istore_n 3, 1) := dk_62 (dk_at dksX1_nearestKey_4 6 rfl rfl)
theorem dX1_nearestKey_101 : decode cX1_nearestKey 101 = .ok (.iinc 4 1, 3) := dk_132 4 1 (dk_at dksX1_nearestKey_4 7 rfl rfl)
theorem dX1_nearestKey_104 : decode cX1_nearestKey 104 = .ok (.goto (-78), 3) := dk_167 255 178 (dk_at dksX1_nearestKey_4 10 rfl rfl)
theorem dX1_nearestKey_107 : decode cX1_nearestKey 107 = .ok (.iload_n 3, 1) := dk_29 (dk_at dksX1_nearestKey_4 13 rfl rfl)
theorem dX1_nearestKey_108 : decode cX1_nearestKey 108 = .ok (.ireturn, 1) := dk_172 (dk_at dksX1_nearestKey_4 14 rfl rfl)
abbrev cX1_ranked : ByteArray := prog_4_method_41_code
def yX1_ranked : MethodName := ⟨RX1, "ranked", "(I)I"⟩
def dkwX1_ranked_3 : List UInt8 := [132, 5, 1, 167, 255, 218, 21, 4, 27, 160, 0, 5, 29, 172, 132, 3, 1, 167, 255, 190, 17, 252, 13, 172]
abbrev dktX1_ranked_3 : List UInt8 := dkwX1_ranked_3 ++ []
def dkwX1_ranked_2 : List UInt8 := [21, 5, 29, 159, 0, 17, 44, 21, 5, 29, 184, 1, 32, 153, 0, 7, 4, 167, 0, 4, 3, 96, 54, 4]
abbrev dktX1_ranked_2 : List UInt8 := dkwX1_ranked_2 ++ dktX1_ranked_3
def dkwX1_ranked_1 : List UInt8 := [182, 0, 74, 162, 0, 64, 3, 54, 4, 3, 54, 5, 21, 5, 42, 182, 0, 74, 162, 0, 35, 21, 4]
abbrev dktX1_ranked_1 : List UInt8 := dkwX1_ranked_1 ++ dktX1_ranked_2
def dkwX1_ranked_0 : List UInt8 := [42, 180, 0, 14, 182, 0, 156, 153, 0, 7, 17, 252, 13, 172, 42, 182, 1, 21, 77, 3, 62, 29, 42]
abbrev dktX1_ranked_0 : List UInt8 := dkwX1_ranked_0 ++ dktX1_ranked_1
theorem dksX1_ranked_0 : cX1_ranked.data.toList.drop 0 = dktX1_ranked_0 := by decide +kernel
theorem dksX1_ranked_1 : cX1_ranked.data.toList.drop 23 = dktX1_ranked_1 := dk_seg dksX1_ranked_0 23 rfl rfl
theorem dksX1_ranked_2 : cX1_ranked.data.toList.drop 46 = dktX1_ranked_2 := dk_seg dksX1_ranked_1 23 rfl rfl
theorem dksX1_ranked_3 : cX1_ranked.data.toList.drop 70 = dktX1_ranked_3 := dk_seg dksX1_ranked_2 24 rfl rfl
theorem dX1_ranked_0 : decode cX1_ranked 0 = .ok (.aload_n 0, 1) := dk_42 (dk_at dksX1_ranked_0 0 rfl rfl)
theorem dX1_ranked_1 : decode cX1_ranked 1 = .ok (.getfield 14, 3) := dk_180 0 14 (dk_at dksX1_ranked_0 1 rfl rfl)
theorem dX1_ranked_4 : decode cX1_ranked 4 = .ok (.invokevirtual 156, 3) := dk_182 0 156 (dk_at dksX1_ranked_0 4 rfl rfl)
theorem dX1_ranked_7 : decode cX1_ranked 7 = .ok (.ifCond .eq 7, 3) := dk_153 0 7 (dk_at dksX1_ranked_0 7 rfl rfl)
theorem dX1_ranked_10 : decode cX1_ranked 10 = .ok (.sipush (-1011), 3) := dk_17 252 13 (dk_at dksX1_ranked_0 10 rfl rfl)
theorem dX1_ranked_13 : decode cX1_ranked 13 = .ok (.ireturn, 1) := dk_172 (dk_at dksX1_ranked_0 13 rfl rfl)
theorem dX1_ranked_14 : decode cX1_ranked 14 = .ok (.aload_n 0, 1) := dk_42 (dk_at dksX1_ranked_0 14 rfl rfl)
theorem dX1_ranked_15 : decode cX1_ranked 15 = .ok (.invokevirtual 277, 3) := dk_182 1 21 (dk_at dksX1_ranked_0 15 rfl rfl)
theorem dX1_ranked_18 : decode cX1_ranked 18 = .ok (.astore_n 2, 1) := dk_77 (dk_at dksX1_ranked_0 18 rfl rfl)
theorem dX1_ranked_19 : decode cX1_ranked 19 = .ok (.iconst 0, 1) := dk_3 (dk_at dksX1_ranked_0 19 rfl rfl)
theorem dX1_ranked_20 : decode cX1_ranked 20 = .ok (.istore_n 3, 1) := dk_62 (dk_at dksX1_ranked_0 20 rfl rfl)
theorem dX1_ranked_21 : decode cX1_ranked 21 = .ok (.iload_n 3, 1) := dk_29 (dk_at dksX1_ranked_0 21 rfl rfl)
theorem dX1_ranked_22 : decode cX1_ranked 22 = .ok (.aload_n 0, 1) := dk_42 (dk_at dksX1_ranked_0 22 rfl rfl)
theorem dX1_ranked_23 : decode cX1_ranked 23 = .ok (.invokevirtual 74, 3) := dk_182 0 74 (dk_at dksX1_ranked_1 0 rfl rfl)
theorem dX1_ranked_26 : decode cX1_ranked 26 = .ok (.if_icmp .ge 64, 3) := dk_162 0 64 (dk_at dksX1_ranked_1 3 rfl rfl)
theorem dX1_ranked_29 : decode cX1_ranked 29 = .ok (.iconst 0, 1) := dk_3 (dk_at dksX1_ranked_1 6 rfl rfl)
theorem dX1_ranked_30 : decode cX1_ranked 30 = .ok (.istore 4, 2) := dk_54 4 (dk_at dksX1_ranked_1 7 rfl rfl)
theorem dX1_ranked_32 : decode cX1_ranked 32 = .ok (.iconst 0, 1) := dk_3 (dk_at dksX1_ranked_1 9 rfl rfl)
theorem dX1_ranked_33 : decode cX1_ranked 33 = .ok (.istore 5, 2) := dk_54 5 (dk_at dksX1_ranked_1 10 rfl rfl)
theorem dX1_ranked_35 : decode cX1_ranked 35 = .ok (.iload 5, 2) := dk_21 5 (dk_at dksX1_ranked_1 12 rfl rfl)
theorem dX1_ranked_37 : decode cX1_ranked 37 = .ok (.aload_n 0, 1) := dk_42 (dk_at dksX1_ranked_1 14 rfl rfl)
theorem dX1_ranked_38 : decode cX1_ranked 38 = .ok (.invokevirtual 74, 3) := dk_182 0 74 (dk_at dksX1_ranked_1 15 rfl rfl)
theorem dX1_ranked_41 : decode cX1_ranked 41 = .ok (.if_icmp .ge 35, 3) := dk_162 0 35 (dk_at dksX1_ranked_1 18 rfl rfl)
theorem dX1_ranked_44 : decode cX1_ranked 44 = .ok (.iload 4, 2) := dk_21 4 (dk_at dksX1_ranked_1 21 rfl rfl)
theorem dX1_ranked_46 : decode cX1_ranked 46 = .ok (.iload 5, 2) := dk_21 5 (dk_at dksX1_ranked_2 0 rfl rfl)
theorem dX1_ranked_48 : decode cX1_ranked 48 = .ok (.iload_n 3, 1) := dk_29 (dk_at dksX1_ranked_2 2 rfl rfl)
theorem dX1_ranked_49 : decode cX1_ranked 49 = .ok (.if_icmp .eq 17, 3) := dk_159 0 17 (dk_at dksX1_ranked_2 3 rfl rfl)
theorem dX1_ranked_52 : decode cX1_ranked 52 = .ok (.aload_n 2, 1) := dk_44 (dk_at dksX1_ranked_2 6 rfl rfl)
theorem dX1_ranked_53 : decode cX1_ranked 53 = .ok (.iload 5, 2) := dk_21 5 (dk_at dksX1_ranked_2 7 rfl rfl)
theorem dX1_ranked_55 : decode cX1_ranked 55 = .ok (.iload_n 3, 1) := dk_29 (dk_at dksX1_ranked_2 9 rfl rfl)
theorem dX1_ranked_56 : decode cX1_ranked 56 = .ok (.invokestatic 288, 3) := dk_184 1 32 (dk_at dksX1_ranked_2 10 rfl rfl)
theorem dX1_ranked_59 : decode cX1_ranked 59 = .ok (.ifCond .eq 7, 3) := dk_153 0 7 (dk_at dksX1_ranked_2 13 rfl rfl)
theorem dX1_ranked_62 : decode cX1_ranked 62 = .ok (.iconst 1, 1) := dk_4 (dk_at dksX1_ranked_2 16 rfl rfl)
theorem dX1_ranked_63 : decode cX1_ranked 63 = .ok (.goto 4, 3) := dk_167 0 4 (dk_at dksX1_ranked_2 17 rfl rfl)
theorem dX1_ranked_66 : decode cX1_ranked 66 = .ok (.iconst 0, 1) := dk_3 (dk_at dksX1_ranked_2 20 rfl rfl)
theorem dX1_ranked_67 : decode cX1_ranked 67 = .ok (.iadd, 1) := dk_96 (dk_at dksX1_ranked_2 21 rfl rfl)
theorem dX1_ranked_68 : decode cX1_ranked 68 = .ok (.istore 4, 2) := dk_54 4 (dk_at dksX1_ranked_2 22 rfl rfl)
theorem dX1_ranked_70 : decode cX1_ranked 70 = .ok (.iinc 5 1, 3) := dk_132 5 1 (dk_at dksX1_ranked_3 0 rfl rfl)
theorem dX1_ranked_73 : decode cX1_ranked 73 = .ok (.goto (-38), 3) := dk_167 255 218 (dk_at dksX1_ranked_3 3 rfl rfl)
theorem dX1_ranked_76 : decode cX1_ranked 76 = .ok (.iload 4, 2) := dk_21 4 (dk_at dksX1_ranked_3 6 rfl rfl)
theorem dX1_ranked_78 : decode cX1_ranked 78 = .ok (.iload_n 1, 1) := dk_27 (dk_at dksX1_ranked_3 8 rfl rfl)
theorem dX1_ranked_79 : decode cX1_ranked 79 = .ok (.if_icmp .ne 5, 3) := dk_160 0 5 (dk_at dksX1_ranked_3 9 rfl rfl)
theorem dX1_ranked_82 : decode cX1_ranked 82 = .ok (.iload_n 3, 1) := dk_29 (dk_at dksX1_ranked_3 12 rfl rfl)
theorem dX1_ranked_83 : decode cX1_ranked 83 = .ok (.ireturn, 1) := dk_172 (dk_at dksX1_ranked_3 13 rfl rfl)
theorem dX1_ranked_84 : decode cX1_ranked 84 = .ok (.iinc 3 1, 3) := dk_132 3 1 (dk_at dksX1_ranked_3 14 rfl rfl)
theorem dX1_ranked_87 : decode cX1_ranked 87 = .ok (.goto (-66), 3) := dk_167 255 190 (dk_at dksX1_ranked_3 17 rfl rfl)
theorem dX1_ranked_90 : decode cX1_ranked 90 = .ok (.sipush (-1011), 3) := dk_17 252 13 (dk_at dksX1_ranked_3 20 rfl rfl)
theorem dX1_ranked_93 : decode cX1_ranked 93 = .ok (.ireturn, 1) := dk_172 (dk_at dksX1_ranked_3 23 rfl rfl)
abbrev cX1_isNearer : ByteArray := prog_4_method_40_code
def yX1_isNearer : MethodName := ⟨RX1, "isNearer", "(Ljava/util/LinkedHashMap;II)Z"⟩
def dkwX1_isNearer_3 : List UInt8 := [167, 0, 4, 3, 172]
abbrev dktX1_isNearer_3 : List UInt8 := dkwX1_isNearer_3 ++ []
def dkwX1_isNearer_2 : List UInt8 := [153, 0, 16, 21, 5, 158, 0, 7, 4, 167, 0, 17, 3, 167, 0, 13, 27, 28, 162, 0, 7, 4]
abbrev dktX1_isNearer_2 : List UInt8 := dkwX1_isNearer_2 ++ dktX1_isNearer_3
def dkwX1_isNearer_1 : List UInt8 := [167, 0, 5, 21, 4, 29, 17, 252, 9, 160, 0, 9, 17, 39, 16, 167, 0, 4, 29, 100, 54, 5, 21, 5]
abbrev dktX1_isNearer_1 : List UInt8 := dkwX1_isNearer_1 ++ dktX1_isNearer_2
def dkwX1_isNearer_0 : List UInt8 := [42, 27, 184, 0, 238, 62, 42, 28, 184, 0, 238, 54, 4, 21, 4, 17, 252, 9, 160, 0, 9, 17, 39, 16]
abbrev dktX1_isNearer_0 : List UInt8 := dkwX1_isNearer_0 ++ dktX1_isNearer_1
theorem dksX1_isNearer_0 : cX1_isNearer.data.toList.drop 0 = dktX1_isNearer_0 := by decide +kernel
theorem dksX1_isNearer_1 : cX1_isNearer.data.toList.drop 24 = dktX1_isNearer_1 := dk_seg dksX1_isNearer_0 24 rfl rfl
theorem dksX1_isNearer_2 : cX1_isNearer.data.toList.drop 48 = dktX1_isNearer_2 := dk_seg dksX1_isNearer_1 24 rfl rfl
theorem dksX1_isNearer_3 : cX1_isNearer.data.toList.drop 70 = dktX1_isNearer_3 := dk_seg dksX1_isNearer_2 22 rfl rfl
theorem dX1_isNearer_0 : decode cX1_isNearer 0 = .ok (.aload_n 0, 1) := dk_42 (dk_at dksX1_isNearer_0 0 rfl rfl)
theorem dX1_isNearer_1 : decode cX1_isNearer 1 = .ok (.iload_n 1, 1) := dk_27 (dk_at dksX1_isNearer_0 1 rfl rfl)
theorem dX1_isNearer_2 : decode cX1_isNearer 2 = .ok (.invokestatic 238, 3) := dk_184 0 238 (dk_at dksX1_isNearer_0 2 rfl rfl)
theorem dX1_isNearer_5 : decode cX1_isNearer 5 = .ok (.istore_n 3, 1) := dk_62 (dk_at dksX1_isNearer_0 5 rfl rfl)
theorem dX1_isNearer_6 : decode cX1_isNearer 6 = .ok (.aload_n 0, 1) := dk_42 (dk_at dksX1_isNearer_0 6 rfl rfl)
theorem dX1_isNearer_7 : decode cX1_isNearer 7 = .ok (.iload_n 2, 1) := dk_28 (dk_at dksX1_isNearer_0 7 rfl rfl)
theorem dX1_isNearer_8 : decode cX1_isNearer 8 = .ok (.invokestatic 238, 3) := dk_184 0 238 (dk_at dksX1_isNearer_0 8 rfl rfl)
theorem dX1_isNearer_11 : decode cX1_isNearer 11 = .ok (.istore 4, 2) := dk_54 4 (dk_at dksX1_isNearer_0 11 rfl rfl)
theorem dX1_isNearer_13 : decode cX1_isNearer 13 = .ok (.iload 4, 2) := dk_21 4 (dk_at dksX1_isNearer_0 13 rfl rfl)
theorem dX1_isNearer_15 : decode cX1_isNearer 15 = .ok (.sipush (-1015), 3) := dk_17 252 9 (dk_at dksX1_isNearer_0 15 rfl rfl)
theorem dX1_isNearer_18 : decode cX1_isNearer 18 = .ok (.if_icmp .ne 9, 3) := dk_160 0 9 (dk_at dksX1_isNearer_0 18 rfl rfl)
theorem dX1_isNearer_21 : decode cX1_isNearer 21 = .ok (.sipush 10000, 3) := dk_17 39 16 (dk_at dksX1_isNearer_0 21 rfl rfl)
theorem dX1_isNearer_24 : decode cX1_isNearer 24 = .ok (.goto 5, 3) := dk_167 0 5 (dk_at dksX1_isNearer_1 0 rfl rfl)
theorem dX1_isNearer_27 : decode cX1_isNearer 27 = .ok (.iload 4, 2) := dk_21 4 (dk_at dksX1_isNearer_1 3 rfl rfl)
theorem dX1_isNearer_29 : decode cX1_isNearer 29 = .ok (.iload_n 3, 1) := dk_29 (dk_at dksX1_isNearer_1 5 rfl rfl)
theorem dX1_isNearer_30 : decode cX1_isNearer 30 = .ok (.sipush (-1015), 3) := dk_17 252 9 (dk_at dksX1_isNearer_1 6 rfl rfl)
theorem dX1_isNearer_33 : decode cX1_isNearer 33 = .ok (.if_icmp .ne 9, 3) := dk_160 0 9 (dk_at dksX1_isNearer_1 9 rfl rfl)
theorem dX1_isNearer_36 : decode cX1_isNearer 36 = .ok (.sipush 10000, 3) := dk_17 39 16 (dk_at dksX1_isNearer_1 12 rfl rfl)
theorem dX1_isNearer_39 : decode cX1_isNearer 39 = .ok (.goto 4, 3) := dk_167 0 4 (dk_at dksX1_isNearer_1 15 rfl rfl)
theorem dX1_isNearer_42 : decode cX1_isNearer 42 = .ok (.iload_n 3, 1) := dk_29 (dk_at dksX1_isNearer_1 18 rfl rfl)
theorem dX1_isNearer_43 : decode cX1_isNearer 43 = .ok (.isub, 1) := dk_100 (dk_at dksX1_isNearer_1 19 rfl rfl)
theorem dX1_isNearer_44 : decode cX1_isNearer 44 = .ok (.istore 5, 2) := dk_54 5 (dk_at dksX1_isNearer_1 20 rfl rfl)
theorem dX1_isNearer_46 : decode cX1_isNearer 46 = .ok (.iload 5, 2) := dk_21 5 (dk_at dksX1_isNearer_1 22 rfl rfl)
theorem dX1_isNearer_48 : decode cX1_isNearer 48 = .ok (.ifCond .eq 16, 3) := dk_153 0 16 (dk_at dksX1_isNearer_2 0 rfl rfl)
theorem dX1_isNearer_51 : decode cX1_isNearer 51 = .ok (.iload 5, 2) := dk_21 5 (dk_at dksX1_isNearer_2 3 rfl rfl)
theorem dX1_isNearer_53 : decode cX1_isNearer 53 = .ok (.ifCond .le 7, 3) := dk_158 0 7 (dk_at dksX1_isNearer_2 5 rfl rfl)
theorem dX1_isNearer_56 : decode cX1_isNearer 56 = .ok (.iconst 1, 1) := dk_4 (dk_at dksX1_isNearer_2 8 rfl rfl)
theorem dX1_isNearer_57 : decode cX1_isNearer 57 = .ok (.goto 17, 3) := dk_167 0 17 (dk_at dksX1_isNearer_2 9 rfl rfl)
theorem dX1_isNearer_60 : decode cX1_isNearer 60 = .ok (.iconst 0, 1) := dk_3 (dk_at dksX1_isNearer_2 12 rfl rfl)
theorem dX1_isNearer_61 : decode cX1_isNearer 61 = .ok (.goto 13, 3) := dk_167 0 13 (dk_at dksX1_isNearer_2 13 rfl rfl)
theorem dX1_isNearer_64 : decode cX1_isNearer 64 = .ok (.iload_n 1, 1) := dk_27 (dk_at dksX1_isNearer_2 16 rfl rfl)
theorem dX1_isNearer_65 : decode cX1_isNearer 65 = .ok (.iload_n 2, 1) := dk_28 (dk_at dksX1_isNearer_2 17 rfl rfl)
theorem dX1_isNearer_66 : decode cX1_isNearer 66 = .ok (.if_icmp .ge 7, 3) := dk_162 0 7 (dk_at dksX1_isNearer_2 18 rfl rfl)
theorem dX1_isNearer_69 : decode cX1_isNearer 69 = .ok (.iconst 1, 1) := dk_4 (dk_at dksX1_isNearer_2 21 rfl rfl)
theorem dX1_isNearer_70 : decode cX1_isNearer 70 = .ok (.goto 4, 3) := dk_167 0 4 (dk_at dksX1_isNearer_3 0 rfl rfl)
theorem dX1_isNearer_73 : decode cX1_isNearer 73 = .ok (.iconst 0, 1) := dk_3 (dk_at dksX1_isNearer_3 3 rfl rfl)
theorem dX1_isNearer_74 : decode cX1_isNearer 74 = .ok (.ireturn, 1) := dk_172 (dk_at dksX1_isNearer_3 4 rfl rfl)
abbrev cX1_lit : ByteArray := prog_4_method_45_code
def yX1_lit : MethodName := ⟨RX1, "lit", "()I"⟩
def dkwX1_lit_2 : List UInt8 := [167, 255, 222, 27, 172]
abbrev dktX1_lit_2 : List UInt8 := dkwX1_lit_2 ++ []
def dkwX1_lit_1 : List UInt8 := [185, 0, 38, 1, 0, 192, 0, 42, 78, 27, 45, 182, 0, 111, 153, 0, 7, 4, 167, 0, 4, 3, 96, 60]
abbrev dktX1_lit_1 : List UInt8 := dkwX1_lit_1 ++ dktX1_lit_2
def dkwX1_lit_0 : List UInt8 := [3, 60, 42, 180, 0, 14, 182, 0, 28, 77, 44, 185, 0, 32, 1, 0, 153, 0, 31, 44]
abbrev dktX1_lit_0 : List UInt8 := dkwX1_lit_0 ++ dktX1_lit_1
theorem dksX1_lit_0 : cX1_lit.data.toList.drop 0 = dktX1_lit_0 := by decide +kernel
theorem dksX1_lit_1 : cX1_lit.data.toList.drop 20 = dktX1_lit_1 := dk_seg dksX1_lit_0 20 rfl rfl
theorem dksX1_lit_2 : cX1_lit.data.toList.drop 44 = dktX1_lit_2 := dk_seg dksX1_lit_1 24 rfl rfl
theorem dX1_lit_0 : decode cX1_lit 0 = .ok (.iconst 0, 1) := dk_3 (dk_at dksX1_lit_0 0 rfl rfl)
theorem dX1_lit_1 : decode cX1_lit 1 = .ok (.istore_n 1, 1) := dk_60 (dk_at dksX1_lit_0 1 rfl rfl)
theorem dX1_lit_2 : decode cX1_lit 2 = .ok (.aload_n 0, 1) := dk_42 (dk_at dksX1_lit_0 2 rfl rfl)
theorem dX1_lit_3 : decode cX1_lit 3 = .ok (.getfield 14, 3) := dk_180 0 14 (dk_at dksX1_lit_0 3 rfl rfl)
theorem dX1_lit_6 : decode cX1_lit 6 = .ok (.invokevirtual 28, 3) := dk_182 0 28 (dk_at dksX1_lit_0 6 rfl rfl)
theorem dX1_lit_9 : decode cX1_lit 9 = .ok (.astore_n 2, 1) := dk_77 (dk_at dksX1_lit_0 9 rfl rfl)
theorem dX1_lit_10 : decode cX1_lit 10 = .ok (.aload_n 2, 1) := dk_44 (dk_at dksX1_lit_0 10 rfl rfl)
theorem dX1_lit_11 : decode cX1_lit 11 = .ok (.invokeinterface 32 1, 5) := by decide +kernel
theorem dX1_lit_16 : decode cX1_lit 16 = .ok (.ifCond .eq 31, 3) := dk_153 0 31 (dk_at dksX1_lit_0 16 rfl rfl)
theorem dX1_lit_19 : decode cX1_lit 19 = .ok (.aload_n 2, 1) := dk_44 (dk_at dksX1_lit_0 19 rfl rfl)
theorem dX1_lit_20 : decode cX1_lit 20 = .ok (.invokeinterface 38 1, 5) := by decide +kernel
theorem dX1_lit_25 : decode cX1_lit 25 = .ok (.checkcast 42, 3) := dk_192 0 42 (dk_at dksX1_lit_1 5 rfl rfl)
theorem dX1_lit_28 : decode cX1_lit 28 = .ok (.astore_n 3, 1) := dk_78 (dk_at dksX1_lit_1 8 rfl rfl)
theorem dX1_lit_29 : decode cX1_lit 29 = .ok (.iload_n 1, 1) := dk_27 (dk_at dksX1_lit_1 9 rfl rfl)
theorem dX1_lit_30 : decode cX1_lit 30 = .ok (.aload_n 3, 1) := dk_45 (dk_at dksX1_lit_1 10 rfl rfl)
theorem dX1_lit_31 : decode cX1_lit 31 = .ok (.invokevirtual 111, 3) := dk_182 0 111 (dk_at dksX1_lit_1 11 rfl rfl)
theorem dX1_lit_34 : decode cX1_lit 34 = .ok (.ifCond .eq 7, 3) := dk_153 0 7 (dk_at dksX1_lit_1 14 rfl rfl)
theorem dX1_lit_37 : decode cX1_lit 37 = .ok (.iconst 1, 1) := dk_4 (dk_at dksX1_lit_1 17 rfl rfl)
theorem dX1_lit_38 : decode cX1_lit 38 = .ok (.goto 4, 3) := dk_167 0 4 (dk_at dksX1_lit_1 18 rfl rfl)
theorem dX1_lit_41 : decode cX1_lit 41 = .ok (.iconst 0, 1) := dk_3 (dk_at dksX1_lit_1 21 rfl rfl)
theorem dX1_lit_42 : decode cX1_lit 42 = .ok (.iadd, 1) := dk_96 (dk_at dksX1_lit_1 22 rfl rfl)
theorem dX1_lit_43 : decode cX1_lit 43 = .ok (.istore_n 1, 1) := dk_60 (dk_at dksX1_lit_1 23 rfl rfl)
theorem dX1_lit_44 : decode cX1_lit 44 = .ok (.goto (-34), 3) := dk_167 255 222 (dk_at dksX1_lit_2 0 rfl rfl)
theorem dX1_lit_47 : decode cX1_lit 47 = .ok (.iload_n 1, 1) := dk_27 (dk_at dksX1_lit_2 3 rfl rfl)
theorem dX1_lit_48 : decode cX1_lit 48 = .ok (.ireturn, 1) := dk_172 (dk_at dksX1_lit_2 4 rfl rfl)
abbrev cX1_shut : ByteArray := prog_4_method_46_code
def yX1_shut : MethodName := ⟨RX1, "shut", "()I"⟩
def dkwX1_shut_2 : List UInt8 := [167, 255, 222, 27, 172]
abbrev dktX1_shut_2 : List UInt8 := dkwX1_shut_2 ++ []
def dkwX1_shut_1 : List UInt8 := [185, 0, 38, 1, 0, 192, 0, 52, 78, 27, 45, 180, 0, 124, 153, 0, 7, 4, 167, 0, 4, 3, 96, 60]
abbrev dktX1_shut_1 : List UInt8 := dkwX1_shut_1 ++ dktX1_shut_2
def dkwX1_shut_0 : List UInt8 := [3, 60, 42, 180, 0, 20, 182, 0, 28, 77, 44, 185, 0, 32, 1, 0, 153, 0, 31, 44]
abbrev dktX1_shut_0 : List UInt8 := dkwX1_shut_0 ++ dktX1_shut_1
theorem dksX1_shut_0 : cX1_shut.data.toList.drop 0 = dktX1_shut_0 := by decide +kernel
theorem dksX1_shut_1 : cX1_shut.data.toList.drop 20 = dktX1_shut_1 := dk_seg dksX1_shut_0 20 rfl rfl
theorem dksX1_shut_2 : cX1_shut.data.toList.drop 44 = dktX1_shut_2 := dk_seg dksX1_shut_1 24 rfl rfl
theorem dX1_shut_0 : decode cX1_shut 0 = .ok (.iconst 0, 1) := dk_3 (dk_at dksX1_shut_0 0 rfl rfl)
theorem dX1_shut_1 : decode cX1_shut 1 = .ok (.istore_n 1, 1) := dk_60 (dk_at dksX1_shut_0 1 rfl rfl)
theorem dX1_shut_2 : decode cX1_shut 2 = .ok (.aload_n 0, 1) := dk_42 (dk_at dksX1_shut_0 2 rfl rfl)
theorem dX1_shut_3 : decode cX1_shut 3 = .ok (.getfield 20, 3) := dk_180 0 20 (dk_at dksX1_shut_0 3 rfl rfl)
theorem dX1_shut_6 : decode cX1_shut 6 = .ok (.invokevirtual 28, 3) := dk_182 0 28 (dk_at dksX1_shut_0 6 rfl rfl)
theorem dX1_shut_9 : decode cX1_shut 9 = .ok (.astore_n 2, 1) := dk_77 (dk_at dksX1_shut_0 9 rfl rfl)
theorem dX1_shut_10 : decode cX1_shut 10 = .ok (.aload_n 2, 1) := dk_44 (dk_at dksX1_shut_0 10 rfl rfl)
theorem dX1_shut_11 : decode cX1_shut 11 = .ok (.invokeinterface 32 1, 5) := by decide +kernel
theorem dX1_shut_16 : decode cX1_shut 16 = .ok (.ifCond .eq 31, 3) := dk_153 0 31 (dk_at dksX1_shut_0 16 rfl rfl)
theorem dX1_shut_19 : decode cX1_shut 19 = .ok (.aload_n 2, 1) := dk_44 (dk_at dksX1_shut_0 19 rfl rfl)
theorem dX1_shut_20 : decode cX1_shut 20 = .ok (.invokeinterface 38 1, 5) := by decide +kernel
theorem dX1_shut_25 : decode cX1_shut 25 = .ok (.checkcast 52, 3) := dk_192 0 52 (dk_at dksX1_shut_1 5 rfl rfl)
theorem dX1_shut_28 : decode cX1_shut 28 = .ok (.astore_n 3, 1) := dk_78 (dk_at dksX1_shut_1 8 rfl rfl)
theorem dX1_shut_29 : decode cX1_shut 29 = .ok (.iload_n 1, 1) := dk_27 (dk_at dksX1_shut_1 9 rfl rfl)
theorem dX1_shut_30 : decode cX1_shut 30 = .ok (.aload_n 3, 1) := dk_45 (dk_at dksX1_shut_1 10 rfl rfl)
theorem dX1_shut_31 : decode cX1_shut 31 = .ok (.getfield 124, 3) := dk_180 0 124 (dk_at dksX1_shut_1 11 rfl rfl)
theorem dX1_shut_34 : decode cX1_shut 34 = .ok (.ifCond .eq 7, 3) := dk_153 0 7 (dk_at dksX1_shut_1 14 rfl rfl)
theorem dX1_shut_37 : decode cX1_shut 37 = .ok (.iconst 1, 1) := dk_4 (dk_at dksX1_shut_1 17 rfl rfl)
theorem dX1_shut_38 : decode cX1_shut 38 = .ok (.goto 4, 3) := dk_167 0 4 (dk_at dksX1_shut_1 18 rfl rfl)
theorem dX1_shut_41 : decode cX1_shut 41 = .ok (.iconst 0, 1) := dk_3 (dk_at dksX1_shut_1 21 rfl rfl)
theorem dX1_shut_42 : decode cX1_shut 42 = .ok (.iadd, 1) := dk_96 (dk_at dksX1_shut_1 22 rfl rfl)
theorem dX1_shut_43 : decode cX1_shut 43 = .ok (.istore_n 1, 1) := dk_60 (dk_at dksX1_shut_1 23 rfl rfl)
theorem dX1_shut_44 : decode cX1_shut 44 = .ok (.goto (-34), 3) := dk_167 255 222 (dk_at dksX1_shut_2 0 rfl rfl)
theorem dX1_shut_47 : decode cX1_shut 47 = .ok (.iload_n 1, 1) := dk_27 (dk_at dksX1_shut_2 3 rfl rfl)
theorem dX1_shut_48 : decode cX1_shut 48 = .ok (.ireturn, 1) := dk_172 (dk_at dksX1_shut_2 4 rfl rfl)
abbrev cX1_lying : ByteArray := prog_4_method_47_code
def yX1_lying : MethodName := ⟨RX1, "lying", "()I"⟩
def dkwX1_lying_1 : List UInt8 := [185, 0, 38, 1, 0, 192, 0, 42, 78, 27, 45, 180, 0, 105, 184, 1, 57, 96, 60, 167, 255, 227, 27, 172]
abbrev dktX1_lying_1 : List UInt8 := dkwX1_lying_1 ++ []
def dkwX1_lying_0 : List UInt8 := [3, 60, 42, 180, 0, 14, 182, 0, 28, 77, 44, 185, 0, 32, 1, 0, 153, 0, 26, 44]
abbrev dktX1_lying_0 : List UInt8 := dkwX1_lying_0 ++ dktX1_lying_1
theorem dksX1_lying_0 : cX1_lying.data.toList.drop 0 = dktX1_lying_0 := by decide +kernel
theorem dksX1_lying_1 : cX1_lying.data.toList.drop 20 = dktX1_lying_1 := dk_seg dksX1_lying_0 20 rfl rfl
theorem dX1_lying_0 : decode cX1_lying 0 = .ok (.iconst 0, 1) := dk_3 (dk_at dksX1_lying_0 0 rfl rfl)
theorem dX1_lying_1 : decode cX1_lying 1 = .ok (.istore_n 1, 1) := dk_60 (dk_at dksX1_lying_0 1 rfl rfl)
theorem dX1_lying_2 : decode cX1_lying 2 = .ok (.aload_n 0, 1) := dk_42 (dk_at dksX1_lying_0 2 rfl rfl)
theorem dX1_lying_3 : decode cX1_lying 3 = .ok (.getfield 14, 3) := dk_180 0 14 (dk_at dksX1_lying_0 3 rfl rfl)
theorem dX1_lying_6 : decode cX1_lying 6 = .ok (.invokevirtual 28, 3) := dk_182 0 28 (dk_at dksX1_lying_0 6 rfl rfl)
theorem dX1_lying_9 : decode cX1_lying 9 = .ok (.astore_n 2, 1) := dk_77 (dk_at dksX1_lying_0 9 rfl rfl)
theorem dX1_lying_10 : decode cX1_lying 10 = .ok (.aload_n 2, 1) := dk_44 (dk_at dksX1_lying_0 10 rfl rfl)
theorem dX1_lying_11 : decode cX1_lying 11 = .ok (.invokeinterface 32 1, 5) := by decide +kernel
theorem dX1_lying_16 : decode cX1_lying 16 = .ok (.ifCond .eq 26, 3) := dk_153 0 26 (dk_at dksX1_lying_0 16 rfl rfl)
theorem dX1_lying_19 : decode cX1_lying 19 = .ok (.aload_n 2, 1) := dk_44 (dk_at dksX1_lying_0 19 rfl rfl)
theorem dX1_lying_20 : decode cX1_lying 20 = .ok (.invokeinterface 38 1, 5) := by decide +kernel
theorem dX1_lying_25 : decode cX1_lying 25 = .ok (.checkcast 42, 3) := dk_192 0 42 (dk_at dksX1_lying_1 5 rfl rfl)
theorem dX1_lying_28 : decode cX1_lying 28 = .ok (.astore_n 3, 1) := dk_78 (dk_at dksX1_lying_1 8 rfl rfl)
theorem dX1_lying_29 : decode cX1_lying 29 = .ok (.iload_n 1, 1) := dk_27 (dk_at dksX1_lying_1 9 rfl rfl)
theorem dX1_lying_30 : decode cX1_lying 30 = .ok (.aload_n 3, 1) := dk_45 (dk_at dksX1_lying_1 10 rfl rfl)
theorem dX1_lying_31 : decode cX1_lying 31 = .ok (.getfield 105, 3) := dk_180 0 105 (dk_at dksX1_lying_1 11 rfl rfl)
theorem dX1_lying_34 : decode cX1_lying 34 = .ok (.invokestatic 313, 3) := dk_184 1 57 (dk_at dksX1_lying_1 14 rfl rfl)
theorem dX1_lying_37 : decode cX1_lying 37 = .ok (.iadd, 1) := dk_96 (dk_at dksX1_lying_1 17 rfl rfl)
theorem dX1_lying_38 : decode cX1_lying 38 = .ok (.istore_n 1, 1) := dk_60 (dk_at dksX1_lying_1 18 rfl rfl)
theorem dX1_lying_39 : decode cX1_lying 39 = .ok (.goto (-29), 3) := dk_167 255 227 (dk_at dksX1_lying_1 19 rfl rfl)
theorem dX1_lying_42 : decode cX1_lying 42 = .ok (.iload_n 1, 1) := dk_27 (dk_at dksX1_lying_1 22 rfl rfl)
theorem dX1_lying_43 : decode cX1_lying 43 = .ok (.ireturn, 1) := dk_172 (dk_at dksX1_lying_1 23 rfl rfl)
abbrev cX1_inHand : ByteArray := prog_4_method_48_code
def yX1_inHand : MethodName := ⟨RX1, "inHand", "()I"⟩
def dkwX1_inHand_0 : List UInt8 := [42, 180, 0, 23, 184, 1, 57, 172]
abbrev dktX1_inHand_0 : List UInt8 := dkwX1_inHand_0 ++ []
theorem dksX1_inHand_0 : cX1_inHand.data.toList.drop 0 = dktX1_inHand_0 := by decide +kernel
theorem dX1_inHand_0 : decode cX1_inHand 0 = .ok (.aload_n 0, 1) := dk_42 (dk_at dksX1_inHand_0 0 rfl rfl)
theorem dX1_inHand_1 : decode cX1_inHand 1 = .ok (.getfield 23, 3) := dk_180 0 23 (dk_at dksX1_inHand_0 1 rfl rfl)
theorem dX1_inHand_4 : decode cX1_inHand 4 = .ok (.invokestatic 313, 3) := dk_184 1 57 (dk_at dksX1_inHand_0 4 rfl rfl)
theorem dX1_inHand_7 : decode cX1_inHand 7 = .ok (.ireturn, 1) := dk_172 (dk_at dksX1_inHand_0 7 rfl rfl)
abbrev cX1_allOil : ByteArray := prog_4_method_49_code
def yX1_allOil : MethodName := ⟨RX1, "allOil", "()I"⟩
def dkwX1_allOil_1 : List UInt8 := [185, 0, 38, 1, 0, 192, 0, 42, 78, 27, 45, 180, 0, 108, 96, 60, 167, 255, 230, 27, 172]
abbrev dktX1_allOil_1 : List UInt8 := dkwX1_allOil_1 ++ []
def dkwX1_allOil_0 : List UInt8 := [3, 60, 42, 180, 0, 14, 182, 0, 28, 77, 44, 185, 0, 32, 1, 0, 153, 0, 23, 44]
abbrev dktX1_allOil_0 : List UInt8 := dkwX1_allOil_0 ++ dktX1_allOil_1
theorem dksX1_allOil_0 : cX1_allOil.data.toList.drop 0 = dktX1_allOil_0 := by decide +kernel
theorem dksX1_allOil_1 : cX1_allOil.data.toList.drop 20 = dktX1_allOil_1 := dk_seg dksX1_allOil_0 20 rfl rfl
theorem dX1_allOil_0 : decode cX1_allOil 0 = .ok (.iconst 0, 1) := dk_3 (dk_at dksX1_allOil_0 0 rfl rfl)
theorem dX1_allOil_1 : decode cX1_allOil 1 = .ok (.istore_n 1, 1) := dk_60 (dk_at dksX1_allOil_0 1 rfl rfl)
theorem dX1_allOil_2 : decode cX1_allOil 2 = .ok (.aload_n 0, 1) := dk_42 (dk_at dksX1_allOil_0 2 rfl rfl)
theorem dX1_allOil_3 : decode cX1_allOil 3 = .ok (.getfield 14, 3) := dk_180 0 14 (dk_at dksX1_allOil_0 3 rfl rfl)
theorem dX1_allOil_6 : decode cX1_allOil 6 = .ok (.invokevirtual 28, 3) := dk_182 0 28 (dk_at dksX1_allOil_0 6 rfl rfl)
theorem dX1_allOil_9 : decode cX1_allOil 9 = .ok (.astore_n 2, 1) := dk_77 (dk_at dksX1_allOil_0 9 rfl rfl)
theorem dX1_allOil_10 : decode cX1_allOil 10 = .ok (.aload_n 2, 1) := dk_44 (dk_at dksX1_allOil_0 10 rfl rfl)
theorem dX1_allOil_11 : decode cX1_allOil 11 = .ok (.invokeinterface 32 1, 5) := by decide +kernel
theorem dX1_allOil_16 : decode cX1_allOil 16 = .ok (.ifCond .eq 23, 3) := dk_153 0 23 (dk_at dksX1_allOil_0 16 rfl rfl)
theorem dX1_allOil_19 : decode cX1_allOil 19 = .ok (.aload_n 2, 1) := dk_44 (dk_at dksX1_allOil_0 19 rfl rfl)
theorem dX1_allOil_20 : decode cX1_allOil 20 = .ok (.invokeinterface 38 1, 5) := by decide +kernel
theorem dX1_allOil_25 : decode cX1_allOil 25 = .ok (.checkcast 42, 3) := dk_192 0 42 (dk_at dksX1_allOil_1 5 rfl rfl)
theorem dX1_allOil_28 : decode cX1_allOil 28 = .ok (.astore_n 3, 1) := dk_78 (dk_at dksX1_allOil_1 8 rfl rfl)
theorem dX1_allOil_29 : decode cX1_allOil 29 = .ok (.iload_n 1, 1) := dk_27 (dk_at dksX1_allOil_1 9 rfl rfl)
theorem dX1_allOil_30 : decode cX1_allOil 30 = .ok (.aload_n 3, 1) := dk_45 (dk_at dksX1_allOil_1 10 rfl rfl)
theorem dX1_allOil_31 : decode cX1_allOil 31 = .ok (.getfield 108, 3) := dk_180 0 108 (dk_at dksX1_allOil_1 11 rfl rfl)
theorem dX1_allOil_34 : decode cX1_allOil 34 = .ok (.iadd, 1) := dk_96 (dk_at dksX1_allOil_1 14 rfl rfl)
theorem dX1_allOil_35 : decode cX1_allOil 35 = .ok (.istore_n 1, 1) := dk_60 (dk_at dksX1_allOil_1 15 rfl rfl)
theorem dX1_allOil_36 : decode cX1_allOil 36 = .ok (.goto (-26), 3) := dk_167 255 230 (dk_at dksX1_allOil_1 16 rfl rfl)
theorem dX1_allOil_39 : decode cX1_allOil 39 = .ok (.iload_n 1, 1) := dk_27 (dk_at dksX1_allOil_1 19 rfl rfl)
theorem dX1_allOil_40 : decode cX1_allOil 40 = .ok (.ireturn, 1) := dk_172 (dk_at dksX1_allOil_1 20 rfl rfl)
abbrev cX1_isBalanced : ByteArray := prog_4_method_51_code
def yX1_isBalanced : MethodName := ⟨RX1, "isBalanced", "()Z"⟩
def dkwX1_isBalanced_3 : List UInt8 := [167, 0, 4, 3, 126, 60, 132, 2, 1, 167, 255, 219, 27, 172]
abbrev dktX1_isBalanced_3 : List UInt8 := dkwX1_isBalanced_3 ++ []
def dkwX1_isBalanced_2 : List UInt8 := [162, 0, 35, 27, 42, 28, 3, 182, 1, 70, 153, 0, 16, 42, 28, 4, 182, 1, 70, 153, 0, 7, 4]
abbrev dktX1_isBalanced_2 : List UInt8 := dkwX1_isBalanced_2 ++ dktX1_isBalanced_3
def dkwX1_isBalanced_1 : List UInt8 := [180, 0, 64, 79, 184, 1, 57, 160, 0, 7, 4, 167, 0, 4, 3, 60, 3, 61, 28, 42, 182, 0, 74]
abbrev dktX1_isBalanced_1 : List UInt8 := dkwX1_isBalanced_1 ++ dktX1_isBalanced_2
def dkwX1_isBalanced_0 : List UInt8 := [42, 180, 0, 61, 6, 188, 10, 89, 3, 42, 182, 1, 64, 79, 89, 4, 42, 182, 1, 67, 79, 89, 5, 42]
abbrev dktX1_isBalanced_0 : List UInt8 := dkwX1_isBalanced_0 ++ dktX1_isBalanced_1
theorem dksX1_isBalanced_0 : cX1_isBalanced.data.toList.drop 0 = dktX1_isBalanced_0 := by decide +kernel
theorem dksX1_isBalanced_1 : cX1_isBalanced.data.toList.drop 24 = dktX1_isBalanced_1 := dk_seg dksX1_isBalanced_0 24 rfl rfl
theorem dksX1_isBalanced_2 : cX1_isBalanced.data.toList.drop 47 = dktX1_isBalanced_2 := dk_seg dksX1_isBalanced_1 23 rfl rfl
theorem dksX1_isBalanced_3 : cX1_isBalanced.data.toList.drop 70 = dktX1_isBalanced_3 := dk_seg dksX1_isBalanced_2 23 rfl rfl
theorem dX1_isBalanced_0 : decode cX1_isBalanced 0 = .ok (.aload_n 0, 1) := dk_42 (dk_at dksX1_isBalanced_0 0 rfl rfl)
theorem dX1_isBalanced_1 : decode cX1_isBalanced 1 = .ok (.getfield 61, 3) := dk_180 0 61 (dk_at dksX1_isBalanced_0 1 rfl rfl)
theorem dX1_isBalanced_4 : decode cX1_isBalanced 4 = .ok (.iconst 3, 1) := dk_6 (dk_at dksX1_isBalanced_0 4 rfl rfl)
theorem dX1_isBalanced_5 : decode cX1_isBalanced 5 = .ok (.newarray .int, 2) := dk_188_10 (dk_at dksX1_isBalanced_0 5 rfl rfl)
theorem dX1_isBalanced_7 : decode cX1_isBalanced 7 = .ok (.dup, 1) := dk_89 (dk_at dksX1_isBalanced_0 7 rfl rfl)
theorem dX1_isBalanced_8 : decode cX1_isBalanced 8 = .ok (.iconst 0, 1) := dk_3 (dk_at dksX1_isBalanced_0 8 rfl rfl)
theorem dX1_isBalanced_9 : decode cX1_isBalanced 9 = .ok (.aload_n 0, 1) := dk_42 (dk_at dksX1_isBalanced_0 9 rfl rfl)
theorem dX1_isBalanced_10 : decode cX1_isBalanced 10 = .ok (.invokevirtual 320, 3) := dk_182 1 64 (dk_at dksX1_isBalanced_0 10 rfl rfl)
theorem dX1_isBalanced_13 : decode cX1_isBalanced 13 = .ok (.iastore, 1) := dk_79 (dk_at dksX1_isBalanced_0 13 rfl rfl)
theorem dX1_isBalanced_14 : decode cX1_isBalanced 14 = .ok (.dup, 1) := dk_89 (dk_at dksX1_isBalanced_0 14 rfl rfl)
theorem dX1_isBalanced_15 : decode cX1_isBalanced 15 = .ok (.iconst 1, 1) := dk_4 (dk_at dksX1_isBalanced_0 15 rfl rfl)
theorem dX1_isBalanced_16 : decode cX1_isBalanced 16 = .ok (.aload_n 0, 1) := dk_42 (dk_at dksX1_isBalanced_0 16 rfl rfl)
theorem dX1_isBalanced_17 : decode cX1_isBalanced 17 = .ok (.invokevirtual 323, 3) := dk_182 1 67 (dk_at dksX1_isBalanced_0 17 rfl rfl)
theorem dX1_isBalanced_20 : decode cX1_isBalanced 20 = .ok (.iastore, 1) := dk_79 (dk_at dksX1_isBalanced_0 20 rfl rfl)
theorem dX1_isBalanced_21 : decode cX1_isBalanced 21 = .ok (.dup, 1) := dk_89 (dk_at dksX1_isBalanced_0 21 rfl rfl)
theorem dX1_isBalanced_22 : decode cX1_isBalanced 22 = .ok (.iconst 2, 1) := dk_5 (dk_at dksX1_isBalanced_0 22 rfl rfl)
theorem dX1_isBalanced_23 : decode cX1_isBalanced 23 = .ok (.aload_n 0, 1) := dk_42 (dk_at dksX1_isBalanced_0 23 rfl rfl)
theorem dX1_isBalanced_24 : decode cX1_isBalanced 24 = .ok (.getfield 64, 3) := dk_180 0 64 (dk_at dksX1_isBalanced_1 0 rfl rfl)
theorem dX1_isBalanced_27 : decode cX1_isBalanced 27 = .ok (.iastore, 1) := dk_79 (dk_at dksX1_isBalanced_1 3 rfl rfl)
theorem dX1_isBalanced_28 : decode cX1_isBalanced 28 = .ok (.invokestatic 313, 3) := dk_184 1 57 (dk_at dksX1_isBalanced_1 4 rfl rfl)
theorem dX1_isBalanced_31 : decode cX1_isBalanced 31 = .ok (.if_icmp .ne 7, 3) := dk_160 0 7 (dk_at dksX1_isBalanced_1 7 rfl rfl)
theorem dX1_isBalanced_34 : decode cX1_isBalanced 34 = .ok (.iconst 1, 1) := dk_4 (dk_at dksX1_isBalanced_1 10 rfl rfl)
theorem dX1_isBalanced_35 : decode cX1_isBalanced 35 = .ok (.goto 4, 3) := dk_167 0 4 (dk_at dksX1_isBalanced_1 11 rfl rfl)
theorem dX1_isBalanced_38 : decode cX1_isBalanced 38 = .ok (.iconst 0, 1) := dk_3 (dk_at dksX1_isBalanced_1 14 rfl rfl)
theorem dX1_isBalanced_39 : decode cX1_isBalanced 39 = .ok (.istore_n 1, 1) := dk_60 (dk_at dksX1_isBalanced_1 15 rfl rfl)
theorem dX1_isBalanced_40 : decode cX1_isBalanced 40 = .ok (.iconst 0, 1) := dk_3 (dk_at dksX1_isBalanced_1 16 rfl rfl)
theorem dX1_isBalanced_41 : decode cX1_isBalanced 41 = .ok (.istore_n 2, 1) := dk_61 (dk_at dksX1_isBalanced_1 17 rfl rfl)
theorem dX1_isBalanced_42 : decode cX1_isBalanced 42 = .ok (.iload_n 2, 1) := dk_28 (dk_at dksX1_isBalanced_1 18 rfl rfl)
theorem dX1_isBalanced_43 : decode cX1_isBalanced 43 = .ok (.aload_n 0, 1) := dk_42 (dk_at dksX1_isBalanced_1 19 rfl rfl)
theorem dX1_isBalanced_44 : decode cX1_isBalanced 44 = .ok (.invokevirtual 74, 3) := dk_182 0 74 (dk_at dksX1_isBalanced_1 20 rfl rfl)
theorem dX1_isBalanced_47 : decode cX1_isBalanced 47 = .ok (.if_icmp .ge 35, 3) := dk_162 0 35 (dk_at dksX1_isBalanced_2 0 rfl rfl)
theorem dX1_isBalanced_50 : decode cX1_isBalanced 50 = .ok (.iload_n 1, 1) := dk_27 (dk_at dksX1_isBalanced_2 3 rfl rfl)
theorem dX1_isBalanced_51 : decode cX1_isBalanced 51 = .ok (.aload_n 0, 1) := dk_42 (dk_at dksX1_isBalanced_2 4 rfl rfl)
theorem dX1_isBalanced_52 : decode cX1_isBalanced 52 = .ok (.iload_n 2, 1) := dk_28 (dk_at dksX1_isBalanced_2 5 rfl rfl)
theorem dX1_isBalanced_53 : decode cX1_isBalanced 53 = .ok (.iconst 0, 1) := dk_3 (dk_at dksX1_isBalanced_2 6 rfl rfl)
theorem dX1_isBalanced_54 : decode cX1_isBalanced 54 = .ok (.invokevirtual 326, 3) := dk_182 1 70 (dk_at dksX1_isBalanced_2 7 rfl rfl)
theorem dX1_isBalanced_57 : decode cX1_isBalanced 57 = .ok (.ifCond .eq 16, 3) := dk_153 0 16 (dk_at dksX1_isBalanced_2 10 rfl rfl)
theorem dX1_isBalanced_60 : decode cX1_isBalanced 60 = .ok (.aload_n 0, 1) := dk_42 (dk_at dksX1_isBalanced_2 13 rfl rfl)
theorem dX1_isBalanced_61 : decode cX1_isBalanced 61 = .ok (.iload_n 2, 1) := dk_28 (dk_at dksX1_isBalanced_2 14 rfl rfl)
theorem dX1_isBalanced_62 : decode cX1_isBalanced 62 = .ok (.iconst 1, 1) := dk_4 (dk_at dksX1_isBalanced_2 15 rfl rfl)
theorem dX1_isBalanced_63 : decode cX1_isBalanced 63 = .ok (.invokevirtual 326, 3) := dk_182 1 70 (dk_at dksX1_isBalanced_2 16 rfl rfl)
theorem dX1_isBalanced_66 : decode cX1_isBalanced 66 = .ok (.ifCond .eq 7, 3) := dk_153 0 7 (dk_at dksX1_isBalanced_2 19 rfl rfl)
theorem dX1_isBalanced_69 : decode cX1_isBalanced 69 = .ok (.iconst 1, 1) := dk_4 (dk_at dksX1_isBalanced_2 22 rfl rfl)
theorem dX1_isBalanced_70 : decode cX1_isBalanced 70 = .ok (.goto 4, 3) := dk_167 0 4 (dk_at dksX1_isBalanced_3 0 rfl rfl)
theorem dX1_isBalanced_73 : decode cX1_isBalanced 73 = .ok (.iconst 0, 1) := dk_3 (dk_at dksX1_isBalanced_3 3 rfl rfl)
theorem dX1_isBalanced_74 : decode cX1_isBalanced 74 = .ok (.iand, 1) := dk_126 (dk_at dksX1_isBalanced_3 4 rfl rfl)
theorem dX1_isBalanced_75 : decode cX1_isBalanced 75 = .ok (.istore_n 1, 1) := dk_60 (dk_at dksX1_isBalanced_3 5 rfl rfl)
theorem dX1_isBalanced_76 : decode cX1_isBalanced 76 = .ok (.iinc 2 1, 3) := dk_132 2 1 (dk_at dksX1_isBalanced_3 6 rfl rfl)
theorem dX1_isBalanced_79 : decode cX1_isBalanced 79 = .ok (.goto (-37), 3) := dk_167 255 219 (dk_at dksX1_isBalanced_3 9 rfl rfl)
theorem dX1_isBalanced_82 : decode cX1_isBalanced 82 = .ok (.iload_n 1, 1) := dk_27 (dk_at dksX1_isBalanced_3 12 rfl rfl)
theorem dX1_isBalanced_83 : decode cX1_isBalanced 83 = .ok (.ireturn, 1) := dk_172 (dk_at dksX1_isBalanced_3 13 rfl rfl)
abbrev cX1_areAlike : ByteArray := prog_4_method_50_code
def yX1_areAlike : MethodName := ⟨RX1, "areAlike", "(II)Z"⟩
def dkwX1_areAlike_2 : List UInt8 := [160, 0, 7, 4, 167, 0, 4, 3, 126, 54, 4, 132, 5, 1, 167, 255, 217, 21, 4, 172]
abbrev dktX1_areAlike_2 : List UInt8 := dkwX1_areAlike_2 ++ []
def dkwX1_areAlike_1 : List UInt8 := [182, 0, 74, 162, 0, 36, 21, 4, 45, 21, 5, 184, 0, 238, 42, 27, 21, 5, 28, 182, 1, 61]
abbrev dktX1_areAlike_1 : List UInt8 := dkwX1_areAlike_1 ++ dktX1_areAlike_2
def dkwX1_areAlike_0 : List UInt8 := [42, 187, 0, 173, 89, 27, 28, 183, 0, 222, 182, 0, 234, 78, 4, 54, 4, 3, 54, 5, 21, 5, 42]
abbrev dktX1_areAlike_0 : List UInt8 := dkwX1_areAlike_0 ++ dktX1_areAlike_1
theorem dksX1_areAlike_0 : cX1_areAlike.data.toList.drop 0 = dktX1_areAlike_0 := by decide +kernel
theorem dksX1_areAlike_1 : cX1_areAlike.data.toList.drop 23 = dktX1_areAlike_1 := dk_seg dksX1_areAlike_0 23 rfl rfl
theorem dksX1_areAlike_2 : cX1_areAlike.data.toList.drop 45 = dktX1_areAlike_2 := dk_seg dksX1_areAlike_1 22 rfl rfl
theorem dX1_areAlike_0 : decode cX1_areAlike 0 = .ok (.aload_n 0, 1) := dk_42 (dk_at dksX1_areAlike_0 0 rfl rfl)
theorem dX1_areAlike_1 : decode cX1_areAlike 1 = .ok (.new 173, 3) := dk_187 0 173 (dk_at dksX1_areAlike_0 1 rfl rfl)
theorem dX1_areAlike_4 : decode cX1_areAlike 4 = .ok (.dup, 1) := dk_89 (dk_at dksX1_areAlike_0 4 rfl rfl)
theorem dX1_areAlike_5 : decode cX1_areAlike 5 = .ok (.iload_n 1, 1) := dk_27 (dk_at dksX1_areAlike_0 5 rfl rfl)
theorem dX1_areAlike_6 : decode cX1_areAlike 6 = .ok (.iload_n 2, 1) := dk_28 (dk_at dksX1_areAlike_0 6 rfl rfl)
theorem dX1_areAlike_7 : decode cX1_areAlike 7 = .ok (.invokespecial 222, 3) := dk_183 0 222 (dk_at dksX1_areAlike_0 7 rfl rfl)
theorem dX1_areAlike_10 : decode cX1_areAlike 10 = .ok (.invokevirtual 234, 3) := dk_182 0 234 (dk_at dksX1_areAlike_0 10 rfl rfl)
theorem dX1_areAlike_13 : decode cX1_areAlike 13 = .ok (.astore_n 3, 1) := dk_78 (dk_at dksX1_areAlike_0 13 rfl rfl)
theorem dX1_areAlike_14 : decode cX1_areAlike 14 = .ok (.iconst 1, 1) := dk_4 (dk_at dksX1_areAlike_0 14 rfl rfl)
theorem dX1_areAlike_15 : decode cX1_areAlike 15 = .ok (.istore 4, 2) := dk_54 4 (dk_at dksX1_areAlike_0 15 rfl rfl)
theorem dX1_areAlike_17 : decode cX1_areAlike 17 = .ok (.iconst 0, 1) := dk_3 (dk_at dksX1_areAlike_0 17 rfl rfl)
theorem dX1_areAlike_18 : decode cX1_areAlike 18 = .ok (.istore 5, 2) := dk_54 5 (dk_at dksX1_areAlike_0 18 rfl rfl)
theorem dX1_areAlike_20 : decode cX1_areAlike 20 = .ok (.iload 5, 2) := dk_21 5 (dk_at dksX1_areAlike_0 20 rfl rfl)
theorem dX1_areAlike_22 : decode cX1_areAlike 22 = .ok (.aload_n 0, 1) := dk_42 (dk_at dksX1_areAlike_0 22 rfl rfl)
theorem dX1_areAlike_23 : decode cX1_areAlike 23 = .ok (.invokevirtual 74, 3) := dk_182 0 74 (dk_at dksX1_areAlike_1 0 rfl rfl)
theorem dX1_areAlike_26 : decode cX1_areAlike 26 = .ok (.if_icmp .ge 36, 3) := dk_162 0 36 (dk_at dksX1_areAlike_1 3 rfl rfl)
theorem dX1_areAlike_29 : decode cX1_areAlike 29 = .ok (.iload 4, 2) := dk_21 4 (dk_at dksX1_areAlike_1 6 rfl rfl)
theorem dX1_areAlike_31 : decode cX1_areAlike 31 = .ok (.aload_n 3, 1) := dk_45 (dk_at dksX1_areAlike_1 8 rfl rfl)
theorem dX1_areAlike_32 : decode cX1_areAlike 32 = .ok (.iload 5, 2) := dk_21 5 (dk_at dksX1_areAlike_1 9 rfl rfl)
theorem dX1_areAlike_34 : decode cX1_areAlike 34 = .ok (.invokestatic 238, 3) := dk_184 0 238 (dk_at dksX1_areAlike_1 11 rfl rfl)
theorem dX1_areAlike_37 : decode cX1_areAlike 37 = .ok (.aload_n 0, 1) := dk_42 (dk_at dksX1_areAlike_1 14 rfl rfl)
theorem dX1_areAlike_38 : decode cX1_areAlike 38 = .ok (.iload_n 1, 1) := dk_27 (dk_at dksX1_areAlike_1 15 rfl rfl)
theorem dX1_areAlike_39 : decode cX1_areAlike 39 = .ok (.iload 5, 2) := dk_21 5 (dk_at dksX1_areAlike_1 16 rfl rfl)
theorem dX1_areAlike_41 : decode cX1_areAlike 41 = .ok (.iload_n 2, 1) := dk_28 (dk_at dksX1_areAlike_1 18 rfl rfl)
theorem dX1_areAlike_42 : decode cX1_areAlike 42 = .ok (.invokevirtual 317, 3) := dk_182 1 61 (dk_at dksX1_areAlike_1 19 rfl rfl)
theorem dX1_areAlike_45 : decode cX1_areAlike 45 = .ok (.if_icmp .ne 7, 3) := dk_160 0 7 (dk_at dksX1_areAlike_2 0 rfl rfl)
theorem dX1_areAlike_48 : decode cX1_areAlike 48 = .ok (.iconst 1, 1) := dk_4 (dk_at dksX1_areAlike_2 3 rfl rfl)
theorem dX1_areAlike_49 : decode cX1_areAlike 49 = .ok (.goto 4, 3) := dk_167 0 4 (dk_at dksX1_areAlike_2 4 rfl rfl)
theorem dX1_areAlike_52 : decode cX1_areAlike 52 = .ok (.iconst 0, 1) := dk_3 (dk_at dksX1_areAlike_2 7 rfl rfl)
theorem dX1_areAlike_53 : decode cX1_areAlike 53 = .ok (.iand, 1) := dk_126 (dk_at dksX1_areAlike_2 8 rfl rfl)
theorem dX1_areAlike_54 : decode cX1_areAlike 54 = .ok (.istore 4, 2) := dk_54 4 (dk_at dksX1_areAlike_2 9 rfl rfl)
theorem dX1_areAlike_56 : decode cX1_areAlike 56 = .ok (.iinc 5 1, 3) := dk_132 5 1 (dk_at dksX1_areAlike_2 11 rfl rfl)
theorem dX1_areAlike_59 : decode cX1_areAlike 59 = .ok (.goto (-39), 3) := dk_167 255 217 (dk_at dksX1_areAlike_2 14 rfl rfl)
theorem dX1_areAlike_62 : decode cX1_areAlike 62 = .ok (.iload 4, 2) := dk_21 4 (dk_at dksX1_areAlike_2 17 rfl rfl)
theorem dX1_areAlike_64 : decode cX1_areAlike 64 = .ok (.ireturn, 1) := dk_172 (dk_at dksX1_areAlike_2 19 rfl rfl)
theorem q89 : (Jvm.Cond.initialized "ParityMaze$Maze") ∈ lw_all := lw_g (lw_at lw_m1 2 rfl) rfl
theorem q148 : (Jvm.Cond.instantiable "ParityMaze$Maze" (8 : Nat)) ∈ lw_all := lw_g (lw_at lw_m1 61 rfl) rfl
theorem q150 : (Jvm.Cond.instanceMethod ({ cls := "ParityMaze$Maze", name := "<init>", desc := "()V" } : Jvm.MethodName)) ∈ lw_all := lw_g (lw_at lw_m1 63 rfl) rfl
theorem q151 : (Jvm.Cond.code ({ cls := "ParityMaze$Maze", name := "<init>", desc := "()V" } : Jvm.MethodName) prog_4_method_1_code (1 : Nat) (Option.none : Option Jvm.ClassFile.FieldType)) ∈ lw_all := lw_g (lw_at lw_m1 64 rfl) rfl
theorem q152 : (Jvm.Cond.methodLink "ParityMaze$Maze" (3 : Nat) ({ cls := "java/lang/Object", name := "<init>", desc := "()V" } : Jvm.MethodName)) ∈ lw_all := lw_g (lw_at lw_m1 65 rfl) rfl
theorem q155 : (Jvm.Cond.classLink "ParityMaze$Maze" (9 : Nat) "java/util/ArrayList") ∈ lw_all := lw_g (lw_at lw_m1 68 rfl) rfl
theorem q157 : (Jvm.Cond.methodLink "ParityMaze$Maze" (11 : Nat) ({ cls := "java/util/ArrayList", name := "<init>", desc := "(I)V" } : Jvm.MethodName)) ∈ lw_all := lw_g (lw_at lw_m1 70 rfl) rfl
theorem q188 : (Jvm.Cond.fieldLink "ParityMaze$Maze" (14 : Nat) "ParityMaze$Maze" "rooms" "Ljava/util/ArrayList;") ∈ lw_all := lw_g (lw_at lw_m1 101 rfl) rfl
theorem q190 : (Jvm.Cond.fieldLink "ParityMaze$Maze" (20 : Nat) "ParityMaze$Maze" "doors" "Ljava/util/ArrayList;") ∈ lw_all := lw_g (lw_at lw_m1 103 rfl) rfl
theorem q192 : (Jvm.Cond.fieldLink "ParityMaze$Maze" (23 : Nat) "ParityMaze$Maze" "hand" "[I") ∈ lw_all := lw_g (lw_at lw_m1 105 rfl) rfl
theorem q193 : (Jvm.Cond.fieldLink "ParityMaze$Maze" (54 : Nat) "ParityMaze$Maze" "at" "I") ∈ lw_all := lw_g (lw_at lw_m1 106 rfl) rfl
theorem q195 : (Jvm.Cond.fieldLink "ParityMaze$Maze" (58 : Nat) "ParityMaze$Maze" "steps" "I") ∈ lw_all := lw_g (lw_at lw_m1 108 rfl) rfl
theorem q196 : (Jvm.Cond.fieldLink "ParityMaze$Maze" (61 : Nat) "ParityMaze$Maze" "laid" "I") ∈ lw_all := lw_g (lw_at lw_m1 109 rfl) rfl
theorem q198 : (Jvm.Cond.fieldLink "ParityMaze$Maze" (64 : Nat) "ParityMaze$Maze" "used" "I") ∈ lw_all := lw_g (lw_at lw_m1 111 rfl) rfl
theorem q200 : (Jvm.Cond.fieldLink "ParityMaze$Maze" (67 : Nat) "ParityMaze$Maze" "gone" "I") ∈ lw_all := lw_g (lw_at lw_m1 113 rfl) rfl
theorem q202 : (Jvm.Cond.laysFinal "ParityMaze$Maze" "ParityMaze$Maze" "rooms" "Ljava/util/ArrayList;") ∈ lw_all := lw_g (lw_at lw_m1 115 rfl) rfl
theorem q203 : (Jvm.Cond.soleField "ParityMaze$Maze" "rooms") ∈ lw_all := lw_g (lw_at lw_m1 116 rfl) rfl
theorem q204 : (Jvm.Cond.laysFinal "ParityMaze$Maze" "ParityMaze$Maze" "doors" "Ljava/util/ArrayList;") ∈ lw_all := lw_g (lw_at lw_m1 117 rfl) rfl
theorem q205 : (Jvm.Cond.soleField "ParityMaze$Maze" "doors") ∈ lw_all := lw_g (lw_at lw_m1 118 rfl) rfl
theorem q206 : (Jvm.Cond.laysFinal "ParityMaze$Maze" "ParityMaze$Maze" "hand" "[I") ∈ lw_all := lw_g (lw_at lw_m1 119 rfl) rfl
theorem q207 : (Jvm.Cond.soleField "ParityMaze$Maze" "hand") ∈ lw_all := lw_g (lw_at lw_m1 120 rfl) rfl
theorem q208 : (Jvm.Cond.lays "ParityMaze$Maze" "ParityMaze$Maze" "at" "I") ∈ lw_all := lw_g (lw_at lw_m1 121 rfl) rfl
theorem q209 : (Jvm.Cond.soleField "ParityMaze$Maze" "at") ∈ lw_all := lw_g (lw_at lw_m1 122 rfl) rfl
theorem q210 : (Jvm.Cond.lays "ParityMaze$Maze" "ParityMaze$Maze" "steps" "I") ∈ lw_all := lw_g (lw_at lw_m1 123 rfl) rfl
theorem q211 : (Jvm.Cond.soleField "ParityMaze$Maze" "steps") ∈ lw_all := lw_g (lw_at lw_m1 124 rfl) rfl
theorem q212 : (Jvm.Cond.lays "ParityMaze$Maze" "ParityMaze$Maze" "laid" "I") ∈ lw_all := lw_g (lw_at lw_m1 125 rfl) rfl
theorem q213 : (Jvm.Cond.soleField "ParityMaze$Maze" "laid") ∈ lw_all := lw_g (lw_at lw_m1 126 rfl) rfl
theorem q214 : (Jvm.Cond.lays "ParityMaze$Maze" "ParityMaze$Maze" "used" "I") ∈ lw_all := lw_g (lw_at lw_m1 127 rfl) rfl
theorem q215 : (Jvm.Cond.soleField "ParityMaze$Maze" "used") ∈ lw_all := lw_g (lw_at lw_m1 128 rfl) rfl
theorem q216 : (Jvm.Cond.lays "ParityMaze$Maze" "ParityMaze$Maze" "gone" "I") ∈ lw_all := lw_g (lw_at lw_m1 129 rfl) rfl
theorem q217 : (Jvm.Cond.soleField "ParityMaze$Maze" "gone") ∈ lw_all := lw_g (lw_at lw_m1 130 rfl) rfl
theorem q218 : (Jvm.Cond.superclass "ParityMaze$Maze" "java/lang/Object") ∈ lw_all := lw_g (lw_at lw_m1 131 rfl) rfl
theorem q310 : (Jvm.Cond.instanceMethod ({ cls := "ParityMaze$Maze", name := "copy", desc := "()LParityMaze$Maze;" } : Jvm.MethodName)) ∈ lw_all := lw_g (lw_at lw_m1 223 rfl) rfl
theorem q311 : (Jvm.Cond.selects "ParityMaze$Maze" ({ cls := "ParityMaze$Maze", name := "copy", desc := "()LParityMaze$Maze;" } : Jvm.MethodName) ({ cls := "ParityMaze$Maze", name := "copy", desc := "()LParityMaze$Maze;" } : Jvm.MethodName)) ∈ lw_all := lw_g (lw_at lw_m1 224 rfl) rfl
theorem q312 : (Jvm.Cond.code ({ cls := "ParityMaze$Maze", name := "copy", desc := "()LParityMaze$Maze;" } : Jvm.MethodName) prog_4_method_2_code (4 : Nat) (Option.some (Jvm.ClassFile.FieldType.object "ParityMaze$Maze"))) ∈ lw_all := lw_g (lw_at lw_m1 225 rfl) rfl
theorem q313 : (Jvm.Cond.classLink "ParityMaze$Maze" (15 : Nat) "ParityMaze$Maze") ∈ lw_all := lw_g (lw_at lw_m1 226 rfl) rfl
theorem q314 : (Jvm.Cond.methodLink "ParityMaze$Maze" (27 : Nat) ({ cls := "ParityMaze$Maze", name := "<init>", desc := "()V" } : Jvm.MethodName)) ∈ lw_all := lw_g (lw_at lw_m1 227 rfl) rfl
theorem q315 : (Jvm.Cond.methodLink "ParityMaze$Maze" (28 : Nat) ({ cls := "java/util/ArrayList", name := "iterator", desc := "()Ljava/util/Iterator;" } : Jvm.MethodName)) ∈ lw_all := lw_g (lw_at lw_m1 228 rfl) rfl
theorem q338 : (Jvm.Cond.interfaceEntry "ParityMaze$Maze" (32 : Nat)) ∈ lw_tbl := lw_at lw_m2 11 rfl
theorem q339 : (Jvm.Cond.methodLink "ParityMaze$Maze" (32 : Nat) ({ cls := "java/util/Iterator", name := "hasNext", desc := "()Z" } : Jvm.MethodName)) ∈ lw_all := lw_g (lw_at lw_m2 12 rfl) rfl
theorem q360 : (Jvm.Cond.interfaceEntry "ParityMaze$Maze" (38 : Nat)) ∈ lw_tbl := lw_at lw_m2 33 rfl
theorem q361 : (Jvm.Cond.methodLink "ParityMaze$Maze" (38 : Nat) ({ cls := "java/util/Iterator", name := "next", desc := "()Ljava/lang/Object;" } : Jvm.MethodName)) ∈ lw_all := lw_g (lw_at lw_m2 34 rfl) rfl
theorem q402 : (Jvm.Cond.classLink "ParityMaze$Maze" (42 : Nat) "ParityMaze$Room") ∈ lw_all := lw_g (lw_at lw_m2 75 rfl) rfl
theorem q403 : (Jvm.Cond.methodLink "ParityMaze$Maze" (44 : Nat) ({ cls := "ParityMaze$Room", name := "copy", desc := "()LParityMaze$Room;" } : Jvm.MethodName)) ∈ lw_all := lw_g (lw_at lw_m2 76 rfl) rfl
theorem q414 : (Jvm.Cond.fieldLinkNest "ParityMaze$Maze" (105 : Nat) "ParityMaze$Room" "keys" "[I" "ParityMaze") ∈ lw_tbl := lw_at lw_m2 87 rfl
theorem q416 : (Jvm.Cond.fieldLinkNest "ParityMaze$Maze" (108 : Nat) "ParityMaze$Room" "oil" "I" "ParityMaze") ∈ lw_tbl := lw_at lw_m2 89 rfl
theorem q422 : (Jvm.Cond.methodLink "ParityMaze$Maze" (48 : Nat) ({ cls := "java/util/ArrayList", name := "add", desc := "(Ljava/lang/Object;)Z" } : Jvm.MethodName)) ∈ lw_all := lw_g (lw_at lw_m2 95 rfl) rfl
theorem q459 : (Jvm.Cond.selects "ParityMaze$Maze" ({ cls := "java/lang/Object", name := "getClass", desc := "()Ljava/lang/Class;" } : Jvm.MethodName) ({ cls := "java/lang/Object", name := "getClass", desc := "()Ljava/lang/Class;" } : Jvm.MethodName)) ∈ lw_all := lw_g (lw_at lw_m2 132 rfl) rfl
theorem q499 : (Jvm.Cond.classLink "ParityMaze$Maze" (52 : Nat) "ParityMaze$Door") ∈ lw_all := lw_g (lw_at lw_m2 172 rfl) rfl
theorem q501 : (Jvm.Cond.instanceMethod ({ cls := "ParityMaze$Maze", name := "adds", desc := "(I)I" } : Jvm.MethodName)) ∈ lw_all := lw_g (lw_at lw_m2 174 rfl) rfl
theorem q502 : (Jvm.Cond.selects "ParityMaze$Maze" ({ cls := "ParityMaze$Maze", name := "adds", desc := "(I)I" } : Jvm.MethodName) ({ cls := "ParityMaze$Maze", name := "adds", desc := "(I)I" } : Jvm.MethodName)) ∈ lw_all := lw_g (lw_at lw_m2 175 rfl) rfl
theorem q503 : (Jvm.Cond.code ({ cls := "ParityMaze$Maze", name := "adds", desc := "(I)I" } : Jvm.MethodName) prog_4_method_7_code (2 : Nat) (Option.some Jvm.ClassFile.FieldType.int)) ∈ lw_all := lw_g (lw_at lw_m2 176 rfl) rfl
theorem q504 : (Jvm.Cond.methodLink "ParityMaze$Maze" (74 : Nat) ({ cls := "ParityMaze$Maze", name := "many", desc := "()I" } : Jvm.MethodName)) ∈ lw_all := lw_g (lw_at lw_m2 177 rfl) rfl
theorem q505 : (Jvm.Cond.instanceMethod ({ cls := "ParityMaze$Maze", name := "many", desc := "()I" } : Jvm.MethodName)) ∈ lw_all := lw_g (lw_at lw_m2 178 rfl) rfl
theorem q506 : (Jvm.Cond.selects "ParityMaze$Maze" ({ cls := "ParityMaze$Maze", name := "many", desc := "()I" } : Jvm.MethodName) ({ cls := "ParityMaze$Maze", name := "many", desc := "()I" } : Jvm.MethodName)) ∈ lw_all := lw_g (lw_at lw_m2 179 rfl) rfl
theorem q507 : (Jvm.Cond.code ({ cls := "ParityMaze$Maze", name := "many", desc := "()I" } : Jvm.MethodName) prog_4_method_3_code (1 : Nat) (Option.some Jvm.ClassFile.FieldType.int)) ∈ lw_all := lw_g (lw_at lw_m2 180 rfl) rfl
theorem q508 : (Jvm.Cond.methodLink "ParityMaze$Maze" (70 : Nat) ({ cls := "java/util/ArrayList", name := "size", desc := "()I" } : Jvm.MethodName)) ∈ lw_all := lw_g (lw_at lw_m2 181 rfl) rfl
theorem q512 : (Jvm.Cond.methodLinkNest "ParityMaze$Maze" (85 : Nat) ({ cls := "ParityMaze", name := "refuse", desc := "(ZII)V" } : Jvm.MethodName) "ParityMaze") ∈ lw_tbl := lw_at lw_m2 185 rfl
theorem q582 : (Jvm.Cond.methodLink "ParityMaze$Maze" (89 : Nat) ({ cls := "ParityMaze$Room", name := "<init>", desc := "(I)V" } : Jvm.MethodName)) ∈ lw_all := lw_g (lw_at lw_m3 15 rfl) rfl
theorem q635 : (Jvm.Cond.instanceMethod ({ cls := "ParityMaze$Maze", name := "areRooms", desc := "(II)Z" } : Jvm.MethodName)) ∈ lw_all := lw_g (lw_at lw_m3 68 rfl) rfl
theorem q636 : (Jvm.Cond.selects "ParityMaze$Maze" ({ cls := "ParityMaze$Maze", name := "areRooms", desc := "(II)Z" } : Jvm.MethodName) ({ cls := "ParityMaze$Maze", name := "areRooms", desc := "(II)Z" } : Jvm.MethodName)) ∈ lw_all := lw_g (lw_at lw_m3 69 rfl) rfl
theorem q637 : (Jvm.Cond.code ({ cls := "ParityMaze$Maze", name := "areRooms", desc := "(II)Z" } : Jvm.MethodName) prog_4_method_5_code (3 : Nat) (Option.some Jvm.ClassFile.FieldType.boolean)) ∈ lw_all := lw_g (lw_at lw_m3 70 rfl) rfl
theorem q638 : (Jvm.Cond.methodLink "ParityMaze$Maze" (81 : Nat) ({ cls := "ParityMaze$Maze", name := "isRoom", desc := "(I)Z" } : Jvm.MethodName)) ∈ lw_all := lw_g (lw_at lw_m3 71 rfl) rfl
theorem q639 : (Jvm.Cond.instanceMethod ({ cls := "ParityMaze$Maze", name := "isRoom", desc := "(I)Z" } : Jvm.MethodName)) ∈ lw_all := lw_g (lw_at lw_m3 72 rfl) rfl
theorem q640 : (Jvm.Cond.selects "ParityMaze$Maze" ({ cls := "ParityMaze$Maze", name := "isRoom", desc := "(I)Z" } : Jvm.MethodName) ({ cls := "ParityMaze$Maze", name := "isRoom", desc := "(I)Z" } : Jvm.MethodName)) ∈ lw_all := lw_g (lw_at lw_m3 73 rfl) rfl
theorem q641 : (Jvm.Cond.code ({ cls := "ParityMaze$Maze", name := "isRoom", desc := "(I)Z" } : Jvm.MethodName) prog_4_method_4_code (2 : Nat) (Option.some Jvm.ClassFile.FieldType.boolean)) ∈ lw_all := lw_g (lw_at lw_m3 74 rfl) rfl
theorem q642 : (Jvm.Cond.methodLinkNest "ParityMaze$Maze" (77 : Nat) ({ cls := "ParityMaze", name := "isIn", desc := "(III)Z" } : Jvm.MethodName) "ParityMaze") ∈ lw_tbl := lw_at lw_m3 75 rfl
theorem q653 : (Jvm.Cond.instanceMethod ({ cls := "ParityMaze$Maze", name := "builds", desc := "(IIII)I" } : Jvm.MethodName)) ∈ lw_all := lw_g (lw_at lw_m3 86 rfl) rfl
theorem q654 : (Jvm.Cond.selects "ParityMaze$Maze" ({ cls := "ParityMaze$Maze", name := "builds", desc := "(IIII)I" } : Jvm.MethodName) ({ cls := "ParityMaze$Maze", name := "builds", desc := "(IIII)I" } : Jvm.MethodName)) ∈ lw_all := lw_g (lw_at lw_m3 87 rfl) rfl
theorem q655 : (Jvm.Cond.code ({ cls := "ParityMaze$Maze", name := "builds", desc := "(IIII)I" } : Jvm.MethodName) prog_4_method_9_code (6 : Nat) (Option.some Jvm.ClassFile.FieldType.int)) ∈ lw_all := lw_g (lw_at lw_m3 88 rfl) rfl
theorem q656 : (Jvm.Cond.methodLink "ParityMaze$Maze" (98 : Nat) ({ cls := "ParityMaze$Maze", name := "between", desc := "(II)I" } : Jvm.MethodName)) ∈ lw_all := lw_g (lw_at lw_m3 89 rfl) rfl
theorem q657 : (Jvm.Cond.privateMethod ({ cls := "ParityMaze$Maze", name := "between", desc := "(II)I" } : Jvm.MethodName)) ∈ lw_tbl := lw_at lw_m3 90 rfl
theorem q658 : (Jvm.Cond.instanceMethod ({ cls := "ParityMaze$Maze", name := "between", desc := "(II)I" } : Jvm.MethodName)) ∈ lw_all := lw_g (lw_at lw_m3 91 rfl) rfl
theorem q659 : (Jvm.Cond.code ({ cls := "ParityMaze$Maze", name := "between", desc := "(II)I" } : Jvm.MethodName) prog_4_method_8_code (4 : Nat) (Option.some Jvm.ClassFile.FieldType.int)) ∈ lw_all := lw_g (lw_at lw_m3 92 rfl) rfl
theorem q660 : (Jvm.Cond.methodLink "ParityMaze$Maze" (90 : Nat) ({ cls := "java/util/ArrayList", name := "get", desc := "(I)Ljava/lang/Object;" } : Jvm.MethodName)) ∈ lw_all := lw_g (lw_at lw_m3 93 rfl) rfl
theorem q674 : (Jvm.Cond.methodLink "ParityMaze$Maze" (94 : Nat) ({ cls := "ParityMaze$Door", name := "isBetween", desc := "(II)Z" } : Jvm.MethodName)) ∈ lw_all := lw_g (lw_at lw_m3 107 rfl) rfl
theorem q683 : (Jvm.Cond.methodLink "ParityMaze$Maze" (102 : Nat) ({ cls := "ParityMaze$Door", name := "<init>", desc := "(IIII)V" } : Jvm.MethodName)) ∈ lw_all := lw_g (lw_at lw_m3 116 rfl) rfl
theorem q693 : (Jvm.Cond.fieldLinkNest "ParityMaze$Maze" (246 : Nat) "ParityMaze$Door" "lower" "I" "ParityMaze") ∈ lw_tbl := lw_at lw_m3 126 rfl
theorem q695 : (Jvm.Cond.fieldLinkNest "ParityMaze$Maze" (253 : Nat) "ParityMaze$Door" "upper" "I" "ParityMaze") ∈ lw_tbl := lw_at lw_m3 128 rfl
theorem q698 : (Jvm.Cond.fieldLinkNest "ParityMaze$Maze" (138 : Nat) "ParityMaze$Door" "colour" "I" "ParityMaze") ∈ lw_tbl := lw_at lw_m3 131 rfl
theorem q700 : (Jvm.Cond.fieldLinkNest "ParityMaze$Maze" (124 : Nat) "ParityMaze$Door" "isShut" "Z" "ParityMaze") ∈ lw_tbl := lw_at lw_m3 133 rfl
theorem q721 : (Jvm.Cond.instanceMethod ({ cls := "ParityMaze$Maze", name := "lays", desc := "(II)I" } : Jvm.MethodName)) ∈ lw_all := lw_g (lw_at lw_m3 154 rfl) rfl
theorem q722 : (Jvm.Cond.selects "ParityMaze$Maze" ({ cls := "ParityMaze$Maze", name := "lays", desc := "(II)I" } : Jvm.MethodName) ({ cls := "ParityMaze$Maze", name := "lays", desc := "(II)I" } : Jvm.MethodName)) ∈ lw_all := lw_g (lw_at lw_m3 155 rfl) rfl
theorem q723 : (Jvm.Cond.code ({ cls := "ParityMaze$Maze", name := "lays", desc := "(II)I" } : Jvm.MethodName) prog_4_method_10_code (4 : Nat) (Option.some Jvm.ClassFile.FieldType.int)) ∈ lw_all := lw_g (lw_at lw_m3 156 rfl) rfl
theorem q729 : (Jvm.Cond.instanceMethod ({ cls := "ParityMaze$Maze", name := "oils", desc := "(II)I" } : Jvm.MethodName)) ∈ lw_all := lw_g (lw_at lw_m3 162 rfl) rfl
theorem q730 : (Jvm.Cond.selects "ParityMaze$Maze" ({ cls := "ParityMaze$Maze", name := "oils", desc := "(II)I" } : Jvm.MethodName) ({ cls := "ParityMaze$Maze", name := "oils", desc := "(II)I" } : Jvm.MethodName)) ∈ lw_all := lw_g (lw_at lw_m3 163 rfl) rfl
theorem q731 : (Jvm.Cond.code ({ cls := "ParityMaze$Maze", name := "oils", desc := "(II)I" } : Jvm.MethodName) prog_4_method_11_code (4 : Nat) (Option.some Jvm.ClassFile.FieldType.int)) ∈ lw_all := lw_g (lw_at lw_m3 164 rfl) rfl
theorem q737 : (Jvm.Cond.instanceMethod ({ cls := "ParityMaze$Maze", name := "ofRoom", desc := "(II)I" } : Jvm.MethodName)) ∈ lw_all := lw_g (lw_at lw_m3 170 rfl) rfl
theorem q738 : (Jvm.Cond.selects "ParityMaze$Maze" ({ cls := "ParityMaze$Maze", name := "ofRoom", desc := "(II)I" } : Jvm.MethodName) ({ cls := "ParityMaze$Maze", name := "ofRoom", desc := "(II)I" } : Jvm.MethodName)) ∈ lw_all := lw_g (lw_at lw_m3 171 rfl) rfl
theorem q739 : (Jvm.Cond.code ({ cls := "ParityMaze$Maze", name := "ofRoom", desc := "(II)I" } : Jvm.MethodName) prog_4_method_44_code (4 : Nat) (Option.some Jvm.ClassFile.FieldType.int)) ∈ lw_all := lw_g (lw_at lw_m3 172 rfl) rfl
theorem q740 : (Jvm.Cond.methodLink "ParityMaze$Maze" (304 : Nat) ({ cls := "ParityMaze$Maze", name := "doorsOf", desc := "(I)I" } : Jvm.MethodName)) ∈ lw_all := lw_g (lw_at lw_m3 173 rfl) rfl
theorem q741 : (Jvm.Cond.privateMethod ({ cls := "ParityMaze$Maze", name := "doorsOf", desc := "(I)I" } : Jvm.MethodName)) ∈ lw_tbl := lw_at lw_m3 174 rfl
theorem q742 : (Jvm.Cond.instanceMethod ({ cls := "ParityMaze$Maze", name := "doorsOf", desc := "(I)I" } : Jvm.MethodName)) ∈ lw_all := lw_g (lw_at lw_m3 175 rfl) rfl
theorem q743 : (Jvm.Cond.code ({ cls := "ParityMaze$Maze", name := "doorsOf", desc := "(I)I" } : Jvm.MethodName) prog_4_method_43_code (5 : Nat) (Option.some Jvm.ClassFile.FieldType.int)) ∈ lw_all := lw_g (lw_at lw_m3 176 rfl) rfl
theorem q744 : (Jvm.Cond.methodLink "ParityMaze$Maze" (119 : Nat) ({ cls := "ParityMaze$Door", name := "isAt", desc := "(I)Z" } : Jvm.MethodName)) ∈ lw_all := lw_g (lw_at lw_m3 177 rfl) rfl
theorem q745 : (Jvm.Cond.methodLink "ParityMaze$Maze" (307 : Nat) ({ cls := "ParityMaze$Maze", name := "doubled", desc := "()Ljava/util/BitSet;" } : Jvm.MethodName)) ∈ lw_all := lw_g (lw_at lw_m3 178 rfl) rfl
theorem q746 : (Jvm.Cond.instanceMethod ({ cls := "ParityMaze$Maze", name := "doubled", desc := "()Ljava/util/BitSet;" } : Jvm.MethodName)) ∈ lw_all := lw_g (lw_at lw_m3 179 rfl) rfl
theorem q747 : (Jvm.Cond.selects "ParityMaze$Maze" ({ cls := "ParityMaze$Maze", name := "doubled", desc := "()Ljava/util/BitSet;" } : Jvm.MethodName) ({ cls := "ParityMaze$Maze", name := "doubled", desc := "()Ljava/util/BitSet;" } : Jvm.MethodName)) ∈ lw_all := lw_g (lw_at lw_m3 180 rfl) rfl
theorem q748 : (Jvm.Cond.code ({ cls := "ParityMaze$Maze", name := "doubled", desc := "()Ljava/util/BitSet;" } : Jvm.MethodName) prog_4_method_42_code (7 : Nat) (Option.some (Jvm.ClassFile.FieldType.object "java/util/BitSet"))) ∈ lw_all := lw_g (lw_at lw_m3 181 rfl) rfl
theorem q749 : (Jvm.Cond.classLink "ParityMaze$Maze" (292 : Nat) "java/util/BitSet") ∈ lw_all := lw_g (lw_at lw_m3 182 rfl) rfl
theorem q751 : (Jvm.Cond.methodLink "ParityMaze$Maze" (294 : Nat) ({ cls := "java/util/BitSet", name := "<init>", desc := "()V" } : Jvm.MethodName)) ∈ lw_all := lw_g (lw_at lw_m3 184 rfl) rfl
theorem q773 : (Jvm.Cond.methodLink "ParityMaze$Maze" (156 : Nat) ({ cls := "java/util/ArrayList", name := "isEmpty", desc := "()Z" } : Jvm.MethodName)) ∈ lw_all := lw_g (lw_at lw_m3 206 rfl) rfl
theorem q777 : (Jvm.Cond.classLink "ParityMaze$Maze" (295 : Nat) "java/util/LinkedHashSet") ∈ lw_all := lw_g (lw_at lw_m3 210 rfl) rfl
theorem q779 : (Jvm.Cond.methodLink "ParityMaze$Maze" (297 : Nat) ({ cls := "java/util/LinkedHashSet", name := "<init>", desc := "()V" } : Jvm.MethodName)) ∈ lw_all := lw_g (lw_at lw_m3 212 rfl) rfl
theorem q866 : (Jvm.Cond.classLink "ParityMaze$Maze" (187 : Nat) "java/util/LinkedList") ∈ lw_all := lw_g (lw_at lw_m4 59 rfl) rfl
theorem q868 : (Jvm.Cond.methodLink "ParityMaze$Maze" (189 : Nat) ({ cls := "java/util/LinkedList", name := "<init>", desc := "()V" } : Jvm.MethodName)) ∈ lw_all := lw_g (lw_at lw_m4 61 rfl) rfl
theorem q886 : (Jvm.Cond.classLink "ParityMaze$Maze" (173 : Nat) "ParityMaze$Spot") ∈ lw_all := lw_g (lw_at lw_m4 79 rfl) rfl
theorem q888 : (Jvm.Cond.methodLink "ParityMaze$Maze" (222 : Nat) ({ cls := "ParityMaze$Spot", name := "<init>", desc := "(II)V" } : Jvm.MethodName)) ∈ lw_all := lw_g (lw_at lw_m4 81 rfl) rfl
theorem q893 : (Jvm.Cond.fieldLinkNest "ParityMaze$Maze" (172 : Nat) "ParityMaze$Spot" "room" "I" "ParityMaze") ∈ lw_tbl := lw_at lw_m4 86 rfl
theorem q895 : (Jvm.Cond.fieldLinkNest "ParityMaze$Maze" (177 : Nat) "ParityMaze$Spot" "parity" "I" "ParityMaze") ∈ lw_tbl := lw_at lw_m4 88 rfl
theorem q901 : (Jvm.Cond.methodLink "ParityMaze$Maze" (190 : Nat) ({ cls := "java/util/LinkedList", name := "addLast", desc := "(Ljava/lang/Object;)V" } : Jvm.MethodName)) ∈ lw_all := lw_g (lw_at lw_m4 94 rfl) rfl
theorem q928 : (Jvm.Cond.methodLink "ParityMaze$Maze" (194 : Nat) ({ cls := "java/util/LinkedList", name := "isEmpty", desc := "()Z" } : Jvm.MethodName)) ∈ lw_all := lw_g (lw_at lw_m4 121 rfl) rfl
theorem q956 : (Jvm.Cond.methodLink "ParityMaze$Maze" (195 : Nat) ({ cls := "java/util/LinkedList", name := "removeFirst", desc := "()Ljava/lang/Object;" } : Jvm.MethodName)) ∈ lw_all := lw_g (lw_at lw_m4 149 rfl) rfl
theorem q964 : (Jvm.Cond.methodLink "ParityMaze$Maze" (298 : Nat) ({ cls := "java/util/LinkedHashSet", name := "add", desc := "(Ljava/lang/Object;)Z" } : Jvm.MethodName)) ∈ lw_all := lw_g (lw_at lw_m4 157 rfl) rfl
theorem q987 : (Jvm.Cond.selects "ParityMaze$Maze" ({ cls := "java/lang/Object", name := "hashCode", desc := "()I" } : Jvm.MethodName) ({ cls := "java/lang/Object", name := "hashCode", desc := "()I" } : Jvm.MethodName)) ∈ lw_all := lw_g (lw_at lw_m4 180 rfl) rfl
theorem q1410 : (Jvm.Cond.selects "ParityMaze$Maze" ({ cls := "java/lang/Object", name := "equals", desc := "(Ljava/lang/Object;)Z" } : Jvm.MethodName) ({ cls := "java/lang/Object", name := "equals", desc := "(Ljava/lang/Object;)Z" } : Jvm.MethodName)) ∈ lw_all := lw_g (lw_at lw_m6 123 rfl) rfl
theorem q1517 : (Jvm.Cond.methodLink "ParityMaze$Maze" (211 : Nat) ({ cls := "ParityMaze$Spot", name := "after", desc := "(I)LParityMaze$Spot;" } : Jvm.MethodName)) ∈ lw_all := lw_g (lw_at lw_m6 230 rfl) rfl
theorem q1522 : (Jvm.Cond.methodLink "ParityMaze$Maze" (299 : Nat) ({ cls := "java/util/LinkedHashSet", name := "contains", desc := "(Ljava/lang/Object;)Z" } : Jvm.MethodName)) ∈ lw_all := lw_g (lw_at lw_m6 235 rfl) rfl
theorem q1542 : (Jvm.Cond.methodLink "ParityMaze$Maze" (302 : Nat) ({ cls := "java/util/BitSet", name := "set", desc := "(I)V" } : Jvm.MethodName)) ∈ lw_all := lw_g (lw_at lw_m7 15 rfl) rfl
theorem q1571 : (Jvm.Cond.methodLink "ParityMaze$Maze" (215 : Nat) ({ cls := "ParityMaze$Maze", name := "goesOn", desc := "(LParityMaze$Spot;LParityMaze$Door;)Z" } : Jvm.MethodName)) ∈ lw_all := lw_g (lw_at lw_m7 44 rfl) rfl
theorem q1572 : (Jvm.Cond.privateMethod ({ cls := "ParityMaze$Maze", name := "goesOn", desc := "(LParityMaze$Spot;LParityMaze$Door;)Z" } : Jvm.MethodName)) ∈ lw_tbl := lw_at lw_m7 45 rfl
theorem q1573 : (Jvm.Cond.instanceMethod ({ cls := "ParityMaze$Maze", name := "goesOn", desc := "(LParityMaze$Spot;LParityMaze$Door;)Z" } : Jvm.MethodName)) ∈ lw_all := lw_g (lw_at lw_m7 46 rfl) rfl
theorem q1574 : (Jvm.Cond.code ({ cls := "ParityMaze$Maze", name := "goesOn", desc := "(LParityMaze$Spot;LParityMaze$Door;)Z" } : Jvm.MethodName) prog_4_method_23_code (3 : Nat) (Option.some Jvm.ClassFile.FieldType.boolean)) ∈ lw_all := lw_g (lw_at lw_m7 47 rfl) rfl
theorem q1575 : (Jvm.Cond.methodLink "ParityMaze$Maze" (122 : Nat) ({ cls := "ParityMaze$Room", name := "steps", desc := "()I" } : Jvm.MethodName)) ∈ lw_all := lw_g (lw_at lw_m7 48 rfl) rfl
theorem q1583 : (Jvm.Cond.methodLink "ParityMaze$Maze" (131 : Nat) ({ cls := "ParityMaze$Door", name := "isFor", desc := "(I)Z" } : Jvm.MethodName)) ∈ lw_all := lw_g (lw_at lw_m7 56 rfl) rfl
theorem q1587 : (Jvm.Cond.methodLink "ParityMaze$Maze" (219 : Nat) ({ cls := "ParityMaze$Maze", name := "behind", desc := "(LParityMaze$Spot;LParityMaze$Door;)LParityMaze$Spot;" } : Jvm.MethodName)) ∈ lw_all := lw_g (lw_at lw_m7 60 rfl) rfl
theorem q1588 : (Jvm.Cond.privateMethod ({ cls := "ParityMaze$Maze", name := "behind", desc := "(LParityMaze$Spot;LParityMaze$Door;)LParityMaze$Spot;" } : Jvm.MethodName)) ∈ lw_tbl := lw_at lw_m7 61 rfl
theorem q1589 : (Jvm.Cond.instanceMethod ({ cls := "ParityMaze$Maze", name := "behind", desc := "(LParityMaze$Spot;LParityMaze$Door;)LParityMaze$Spot;" } : Jvm.MethodName)) ∈ lw_all := lw_g (lw_at lw_m7 62 rfl) rfl
theorem q1590 : (Jvm.Cond.code ({ cls := "ParityMaze$Maze", name := "behind", desc := "(LParityMaze$Spot;LParityMaze$Door;)LParityMaze$Spot;" } : Jvm.MethodName) prog_4_method_24_code (3 : Nat) (Option.some (Jvm.ClassFile.FieldType.object "ParityMaze$Spot"))) ∈ lw_all := lw_g (lw_at lw_m7 63 rfl) rfl
theorem q1591 : (Jvm.Cond.methodLink "ParityMaze$Maze" (180 : Nat) ({ cls := "ParityMaze$Spot", name := "behind", desc := "(LParityMaze$Door;I)LParityMaze$Spot;" } : Jvm.MethodName)) ∈ lw_all := lw_g (lw_at lw_m7 64 rfl) rfl
theorem q1599 : (Jvm.Cond.methodLink "ParityMaze$Maze" (311 : Nat) ({ cls := "java/util/BitSet", name := "get", desc := "(I)Z" } : Jvm.MethodName)) ∈ lw_all := lw_g (lw_at lw_m7 72 rfl) rfl
theorem q1603 : (Jvm.Cond.methodLink "ParityMaze$Maze" (273 : Nat) ({ cls := "ParityMaze$Maze", name := "way", desc := "(III)I" } : Jvm.MethodName)) ∈ lw_all := lw_g (lw_at lw_m7 76 rfl) rfl
theorem q1604 : (Jvm.Cond.instanceMethod ({ cls := "ParityMaze$Maze", name := "way", desc := "(III)I" } : Jvm.MethodName)) ∈ lw_all := lw_g (lw_at lw_m7 77 rfl) rfl
theorem q1605 : (Jvm.Cond.selects "ParityMaze$Maze" ({ cls := "ParityMaze$Maze", name := "way", desc := "(III)I" } : Jvm.MethodName) ({ cls := "ParityMaze$Maze", name := "way", desc := "(III)I" } : Jvm.MethodName)) ∈ lw_all := lw_g (lw_at lw_m7 78 rfl) rfl
theorem q1606 : (Jvm.Cond.code ({ cls := "ParityMaze$Maze", name := "way", desc := "(III)I" } : Jvm.MethodName) prog_4_method_27_code (4 : Nat) (Option.some Jvm.ClassFile.FieldType.int)) ∈ lw_all := lw_g (lw_at lw_m7 79 rfl) rfl
theorem q1607 : (Jvm.Cond.methodLink "ParityMaze$Maze" (234 : Nat) ({ cls := "ParityMaze$Maze", name := "near", desc := "(LParityMaze$Spot;)Ljava/util/LinkedHashMap;" } : Jvm.MethodName)) ∈ lw_all := lw_g (lw_at lw_m7 80 rfl) rfl
theorem q1608 : (Jvm.Cond.privateMethod ({ cls := "ParityMaze$Maze", name := "near", desc := "(LParityMaze$Spot;)Ljava/util/LinkedHashMap;" } : Jvm.MethodName)) ∈ lw_tbl := lw_at lw_m7 81 rfl
theorem q1609 : (Jvm.Cond.instanceMethod ({ cls := "ParityMaze$Maze", name := "near", desc := "(LParityMaze$Spot;)Ljava/util/LinkedHashMap;" } : Jvm.MethodName)) ∈ lw_all := lw_g (lw_at lw_m7 82 rfl) rfl
theorem q1610 : (Jvm.Cond.code ({ cls := "ParityMaze$Maze", name := "near", desc := "(LParityMaze$Spot;)Ljava/util/LinkedHashMap;" } : Jvm.MethodName) prog_4_method_25_code (11 : Nat) (Option.some (Jvm.ClassFile.FieldType.object "java/util/LinkedHashMap"))) ∈ lw_all := lw_g (lw_at lw_m7 83 rfl) rfl
theorem q1611 : (Jvm.Cond.classLink "ParityMaze$Maze" (184 : Nat) "java/util/LinkedHashMap") ∈ lw_all := lw_g (lw_at lw_m7 84 rfl) rfl
theorem q1612 : (Jvm.Cond.methodLink "ParityMaze$Maze" (186 : Nat) ({ cls := "java/util/LinkedHashMap", name := "<init>", desc := "()V" } : Jvm.MethodName)) ∈ lw_all := lw_g (lw_at lw_m7 85 rfl) rfl
theorem q1619 : (Jvm.Cond.methodLink "ParityMaze$Maze" (198 : Nat) ({ cls := "java/util/LinkedHashMap", name := "containsKey", desc := "(Ljava/lang/Object;)Z" } : Jvm.MethodName)) ∈ lw_all := lw_g (lw_at lw_m7 92 rfl) rfl
theorem q1623 : (Jvm.Cond.methodLink "ParityMaze$Maze" (201 : Nat) ({ cls := "java/lang/Integer", name := "valueOf", desc := "(I)Ljava/lang/Integer;" } : Jvm.MethodName)) ∈ lw_all := lw_g (lw_at lw_m7 96 rfl) rfl
theorem q1642 : (Jvm.Cond.methodLink "ParityMaze$Maze" (207 : Nat) ({ cls := "java/util/LinkedHashMap", name := "put", desc := "(Ljava/lang/Object;Ljava/lang/Object;)Ljava/lang/Object;" } : Jvm.MethodName)) ∈ lw_all := lw_g (lw_at lw_m7 115 rfl) rfl
theorem q1646 : (Jvm.Cond.classLink "ParityMaze$Maze" (202 : Nat) "java/lang/Integer") ∈ lw_all := lw_g (lw_at lw_m7 119 rfl) rfl
theorem q1647 : (Jvm.Cond.methodLink "ParityMaze$Maze" (111 : Nat) ({ cls := "ParityMaze$Room", name := "isLit", desc := "()Z" } : Jvm.MethodName)) ∈ lw_all := lw_g (lw_at lw_m7 120 rfl) rfl
theorem q1648 : (Jvm.Cond.methodLink "ParityMaze$Maze" (238 : Nat) ({ cls := "ParityMaze$Maze", name := "fewest", desc := "(Ljava/util/LinkedHashMap;I)I" } : Jvm.MethodName)) ∈ lw_all := lw_g (lw_at lw_m7 121 rfl) rfl
theorem q1649 : (Jvm.Cond.static ({ cls := "ParityMaze$Maze", name := "fewest", desc := "(Ljava/util/LinkedHashMap;I)I" } : Jvm.MethodName)) ∈ lw_all := lw_g (lw_at lw_m7 122 rfl) rfl
theorem q1650 : (Jvm.Cond.code ({ cls := "ParityMaze$Maze", name := "fewest", desc := "(Ljava/util/LinkedHashMap;I)I" } : Jvm.MethodName) prog_4_method_26_code (5 : Nat) (Option.some Jvm.ClassFile.FieldType.int)) ∈ lw_all := lw_g (lw_at lw_m7 123 rfl) rfl
theorem q1651 : (Jvm.Cond.methodLink "ParityMaze$Maze" (225 : Nat) ({ cls := "java/util/LinkedHashMap", name := "get", desc := "(Ljava/lang/Object;)Ljava/lang/Object;" } : Jvm.MethodName)) ∈ lw_all := lw_g (lw_at lw_m7 124 rfl) rfl
theorem q1660 : (Jvm.Cond.methodLink "ParityMaze$Maze" (228 : Nat) ({ cls := "java/lang/Integer", name := "intValue", desc := "()I" } : Jvm.MethodName)) ∈ lw_all := lw_g (lw_at lw_m7 133 rfl) rfl
theorem q1661 : (Jvm.Cond.methodLink "ParityMaze$Maze" (231 : Nat) ({ cls := "java/lang/Math", name := "min", desc := "(II)I" } : Jvm.MethodName)) ∈ lw_all := lw_g (lw_at lw_m7 134 rfl) rfl
theorem q1667 : (Jvm.Cond.instanceMethod ({ cls := "ParityMaze$Maze", name := "isDoor", desc := "(I)Z" } : Jvm.MethodName)) ∈ lw_all := lw_g (lw_at lw_m7 140 rfl) rfl
theorem q1668 : (Jvm.Cond.selects "ParityMaze$Maze" ({ cls := "ParityMaze$Maze", name := "isDoor", desc := "(I)Z" } : Jvm.MethodName) ({ cls := "ParityMaze$Maze", name := "isDoor", desc := "(I)Z" } : Jvm.MethodName)) ∈ lw_all := lw_g (lw_at lw_m7 141 rfl) rfl
theorem q1669 : (Jvm.Cond.code ({ cls := "ParityMaze$Maze", name := "isDoor", desc := "(I)Z" } : Jvm.MethodName) prog_4_method_6_code (2 : Nat) (Option.some Jvm.ClassFile.FieldType.boolean)) ∈ lw_all := lw_g (lw_at lw_m7 142 rfl) rfl
theorem q1681 : (Jvm.Cond.instanceMethod ({ cls := "ParityMaze$Maze", name := "goes", desc := "(I)I" } : Jvm.MethodName)) ∈ lw_all := lw_g (lw_at lw_m7 154 rfl) rfl
theorem q1682 : (Jvm.Cond.selects "ParityMaze$Maze" ({ cls := "ParityMaze$Maze", name := "goes", desc := "(I)I" } : Jvm.MethodName) ({ cls := "ParityMaze$Maze", name := "goes", desc := "(I)I" } : Jvm.MethodName)) ∈ lw_all := lw_g (lw_at lw_m7 155 rfl) rfl
theorem q1683 : (Jvm.Cond.code ({ cls := "ParityMaze$Maze", name := "goes", desc := "(I)I" } : Jvm.MethodName) prog_4_method_16_code (5 : Nat) (Option.some Jvm.ClassFile.FieldType.int)) ∈ lw_all := lw_g (lw_at lw_m7 156 rfl) rfl
theorem q1684 : (Jvm.Cond.methodLink "ParityMaze$Maze" (134 : Nat) ({ cls := "ParityMaze$Maze", name := "mustBeAt", desc := "(LParityMaze$Door;)V" } : Jvm.MethodName)) ∈ lw_all := lw_g (lw_at lw_m7 157 rfl) rfl
theorem q1685 : (Jvm.Cond.privateMethod ({ cls := "ParityMaze$Maze", name := "mustBeAt", desc := "(LParityMaze$Door;)V" } : Jvm.MethodName)) ∈ lw_tbl := lw_at lw_m7 158 rfl
theorem q1686 : (Jvm.Cond.instanceMethod ({ cls := "ParityMaze$Maze", name := "mustBeAt", desc := "(LParityMaze$Door;)V" } : Jvm.MethodName)) ∈ lw_all := lw_g (lw_at lw_m7 159 rfl) rfl
theorem q1687 : (Jvm.Cond.code ({ cls := "ParityMaze$Maze", name := "mustBeAt", desc := "(LParityMaze$Door;)V" } : Jvm.MethodName) prog_4_method_13_code (2 : Nat) (Option.none : Option Jvm.ClassFile.FieldType)) ∈ lw_all := lw_g (lw_at lw_m7 160 rfl) rfl
theorem q1688 : (Jvm.Cond.methodLink "ParityMaze$Maze" (128 : Nat) ({ cls := "ParityMaze$Maze", name := "lastStep", desc := "()I" } : Jvm.MethodName)) ∈ lw_all := lw_g (lw_at lw_m7 161 rfl) rfl
theorem q1689 : (Jvm.Cond.privateMethod ({ cls := "ParityMaze$Maze", name := "lastStep", desc := "()I" } : Jvm.MethodName)) ∈ lw_tbl := lw_at lw_m7 162 rfl
theorem q1690 : (Jvm.Cond.instanceMethod ({ cls := "ParityMaze$Maze", name := "lastStep", desc := "()I" } : Jvm.MethodName)) ∈ lw_all := lw_g (lw_at lw_m7 163 rfl) rfl
theorem q1691 : (Jvm.Cond.code ({ cls := "ParityMaze$Maze", name := "lastStep", desc := "()I" } : Jvm.MethodName) prog_4_method_14_code (1 : Nat) (Option.some Jvm.ClassFile.FieldType.int)) ∈ lw_all := lw_g (lw_at lw_m7 164 rfl) rfl
theorem q1692 : (Jvm.Cond.methodLink "ParityMaze$Maze" (141 : Nat) ({ cls := "ParityMaze$Maze", name := "burns", desc := "(I)I" } : Jvm.MethodName)) ∈ lw_all := lw_g (lw_at lw_m7 165 rfl) rfl
theorem q1693 : (Jvm.Cond.privateMethod ({ cls := "ParityMaze$Maze", name := "burns", desc := "(I)I" } : Jvm.MethodName)) ∈ lw_tbl := lw_at lw_m7 166 rfl
theorem q1694 : (Jvm.Cond.instanceMethod ({ cls := "ParityMaze$Maze", name := "burns", desc := "(I)I" } : Jvm.MethodName)) ∈ lw_all := lw_g (lw_at lw_m7 167 rfl) rfl
theorem q1695 : (Jvm.Cond.code ({ cls := "ParityMaze$Maze", name := "burns", desc := "(I)I" } : Jvm.MethodName) prog_4_method_12_code (5 : Nat) (Option.some Jvm.ClassFile.FieldType.int)) ∈ lw_all := lw_g (lw_at lw_m7 168 rfl) rfl
theorem q1696 : (Jvm.Cond.methodLink "ParityMaze$Maze" (114 : Nat) ({ cls := "java/lang/Math", name := "max", desc := "(II)I" } : Jvm.MethodName)) ∈ lw_all := lw_g (lw_at lw_m7 169 rfl) rfl
theorem q1697 : (Jvm.Cond.methodLink "ParityMaze$Maze" (145 : Nat) ({ cls := "ParityMaze$Door", name := "beyond", desc := "(I)I" } : Jvm.MethodName)) ∈ lw_all := lw_g (lw_at lw_m7 170 rfl) rfl
theorem q1698 : (Jvm.Cond.methodLink "ParityMaze$Maze" (148 : Nat) ({ cls := "ParityMaze$Door", name := "goneThrough", desc := "()LParityMaze$Door;" } : Jvm.MethodName)) ∈ lw_all := lw_g (lw_at lw_m7 171 rfl) rfl
theorem q1703 : (Jvm.Cond.methodLink "ParityMaze$Maze" (152 : Nat) ({ cls := "java/util/ArrayList", name := "set", desc := "(ILjava/lang/Object;)Ljava/lang/Object;" } : Jvm.MethodName)) ∈ lw_all := lw_g (lw_at lw_m7 176 rfl) rfl
theorem q1712 : (Jvm.Cond.instanceMethod ({ cls := "ParityMaze$Maze", name := "rests", desc := "(I)I" } : Jvm.MethodName)) ∈ lw_all := lw_g (lw_at lw_m7 185 rfl) rfl
theorem q1713 : (Jvm.Cond.selects "ParityMaze$Maze" ({ cls := "ParityMaze$Maze", name := "rests", desc := "(I)I" } : Jvm.MethodName) ({ cls := "ParityMaze$Maze", name := "rests", desc := "(I)I" } : Jvm.MethodName)) ∈ lw_all := lw_g (lw_at lw_m7 186 rfl) rfl
theorem q1714 : (Jvm.Cond.code ({ cls := "ParityMaze$Maze", name := "rests", desc := "(I)I" } : Jvm.MethodName) prog_4_method_18_code (2 : Nat) (Option.some Jvm.ClassFile.FieldType.int)) ∈ lw_all := lw_g (lw_at lw_m7 187 rfl) rfl
theorem q1715 : (Jvm.Cond.methodLink "ParityMaze$Maze" (159 : Nat) ({ cls := "ParityMaze$Maze", name := "mustHaveRooms", desc := "()V" } : Jvm.MethodName)) ∈ lw_all := lw_g (lw_at lw_m7 188 rfl) rfl
theorem q1716 : (Jvm.Cond.privateMethod ({ cls := "ParityMaze$Maze", name := "mustHaveRooms", desc := "()V" } : Jvm.MethodName)) ∈ lw_tbl := lw_at lw_m7 189 rfl
theorem q1717 : (Jvm.Cond.instanceMethod ({ cls := "ParityMaze$Maze", name := "mustHaveRooms", desc := "()V" } : Jvm.MethodName)) ∈ lw_all := lw_g (lw_at lw_m7 190 rfl) rfl
theorem q1718 : (Jvm.Cond.code ({ cls := "ParityMaze$Maze", name := "mustHaveRooms", desc := "()V" } : Jvm.MethodName) prog_4_method_17_code (1 : Nat) (Option.none : Option Jvm.ClassFile.FieldType)) ∈ lw_all := lw_g (lw_at lw_m7 191 rfl) rfl
theorem q1724 : (Jvm.Cond.instanceMethod ({ cls := "ParityMaze$Maze", name := "takes", desc := "(I)I" } : Jvm.MethodName)) ∈ lw_all := lw_g (lw_at lw_m7 197 rfl) rfl
theorem q1725 : (Jvm.Cond.selects "ParityMaze$Maze" ({ cls := "ParityMaze$Maze", name := "takes", desc := "(I)I" } : Jvm.MethodName) ({ cls := "ParityMaze$Maze", name := "takes", desc := "(I)I" } : Jvm.MethodName)) ∈ lw_all := lw_g (lw_at lw_m7 198 rfl) rfl
theorem q1726 : (Jvm.Cond.code ({ cls := "ParityMaze$Maze", name := "takes", desc := "(I)I" } : Jvm.MethodName) prog_4_method_19_code (3 : Nat) (Option.some Jvm.ClassFile.FieldType.int)) ∈ lw_all := lw_g (lw_at lw_m7 199 rfl) rfl
theorem q1732 : (Jvm.Cond.instanceMethod ({ cls := "ParityMaze$Maze", name := "opens", desc := "(I)I" } : Jvm.MethodName)) ∈ lw_all := lw_g (lw_at lw_m7 205 rfl) rfl
theorem q1733 : (Jvm.Cond.selects "ParityMaze$Maze" ({ cls := "ParityMaze$Maze", name := "opens", desc := "(I)I" } : Jvm.MethodName) ({ cls := "ParityMaze$Maze", name := "opens", desc := "(I)I" } : Jvm.MethodName)) ∈ lw_all := lw_g (lw_at lw_m7 206 rfl) rfl
theorem q1734 : (Jvm.Cond.code ({ cls := "ParityMaze$Maze", name := "opens", desc := "(I)I" } : Jvm.MethodName) prog_4_method_20_code (5 : Nat) (Option.some Jvm.ClassFile.FieldType.int)) ∈ lw_all := lw_g (lw_at lw_m7 207 rfl) rfl
theorem q1735 : (Jvm.Cond.methodLink "ParityMaze$Maze" (162 : Nat) ({ cls := "ParityMaze$Door", name := "opened", desc := "()LParityMaze$Door;" } : Jvm.MethodName)) ∈ lw_all := lw_g (lw_at lw_m7 208 rfl) rfl
theorem q1744 : (Jvm.Cond.instanceMethod ({ cls := "ParityMaze$Maze", name := "ofWalker", desc := "(I)I" } : Jvm.MethodName)) ∈ lw_all := lw_g (lw_at lw_m7 217 rfl) rfl
theorem q1745 : (Jvm.Cond.selects "ParityMaze$Maze" ({ cls := "ParityMaze$Maze", name := "ofWalker", desc := "(I)I" } : Jvm.MethodName) ({ cls := "ParityMaze$Maze", name := "ofWalker", desc := "(I)I" } : Jvm.MethodName)) ∈ lw_all := lw_g (lw_at lw_m7 218 rfl) rfl
theorem q1746 : (Jvm.Cond.code ({ cls := "ParityMaze$Maze", name := "ofWalker", desc := "(I)I" } : Jvm.MethodName) prog_4_method_22_code (2 : Nat) (Option.some Jvm.ClassFile.FieldType.int)) ∈ lw_all := lw_g (lw_at lw_m7 219 rfl) rfl
theorem q1747 : (Jvm.Cond.methodLink "ParityMaze$Maze" (169 : Nat) ({ cls := "ParityMaze$Maze", name := "doorsHere", desc := "()I" } : Jvm.MethodName)) ∈ lw_all := lw_g (lw_at lw_m7 220 rfl) rfl
theorem q1748 : (Jvm.Cond.privateMethod ({ cls := "ParityMaze$Maze", name := "doorsHere", desc := "()I" } : Jvm.MethodName)) ∈ lw_tbl := lw_at lw_m7 221 rfl
theorem q1749 : (Jvm.Cond.instanceMethod ({ cls := "ParityMaze$Maze", name := "doorsHere", desc := "()I" } : Jvm.MethodName)) ∈ lw_all := lw_g (lw_at lw_m7 222 rfl) rfl
theorem q1750 : (Jvm.Cond.code ({ cls := "ParityMaze$Maze", name := "doorsHere", desc := "()I" } : Jvm.MethodName) prog_4_method_21_code (4 : Nat) (Option.some Jvm.ClassFile.FieldType.int)) ∈ lw_all := lw_g (lw_at lw_m7 223 rfl) rfl
theorem q1751 : (Jvm.Cond.methodLink "ParityMaze$Maze" (165 : Nat) ({ cls := "ParityMaze$Maze", name := "canGo", desc := "(LParityMaze$Door;)Z" } : Jvm.MethodName)) ∈ lw_all := lw_g (lw_at lw_m7 224 rfl) rfl
theorem q1752 : (Jvm.Cond.privateMethod ({ cls := "ParityMaze$Maze", name := "canGo", desc := "(LParityMaze$Door;)Z" } : Jvm.MethodName)) ∈ lw_tbl := lw_at lw_m7 225 rfl
theorem q1753 : (Jvm.Cond.instanceMethod ({ cls := "ParityMaze$Maze", name := "canGo", desc := "(LParityMaze$Door;)Z" } : Jvm.MethodName)) ∈ lw_all := lw_g (lw_at lw_m7 226 rfl) rfl
theorem q1754 : (Jvm.Cond.code ({ cls := "ParityMaze$Maze", name := "canGo", desc := "(LParityMaze$Door;)Z" } : Jvm.MethodName) prog_4_method_15_code (2 : Nat) (Option.some Jvm.ClassFile.FieldType.boolean)) ∈ lw_all := lw_g (lw_at lw_m7 227 rfl) rfl
theorem q1772 : (Jvm.Cond.instanceMethod ({ cls := "ParityMaze$Maze", name := "wayAgain", desc := "(III)I" } : Jvm.MethodName)) ∈ lw_all := lw_g (lw_at lw_m8 5 rfl) rfl
theorem q1773 : (Jvm.Cond.selects "ParityMaze$Maze" ({ cls := "ParityMaze$Maze", name := "wayAgain", desc := "(III)I" } : Jvm.MethodName) ({ cls := "ParityMaze$Maze", name := "wayAgain", desc := "(III)I" } : Jvm.MethodName)) ∈ lw_all := lw_g (lw_at lw_m8 6 rfl) rfl
theorem q1774 : (Jvm.Cond.code ({ cls := "ParityMaze$Maze", name := "wayAgain", desc := "(III)I" } : Jvm.MethodName) prog_4_method_28_code (8 : Nat) (Option.some Jvm.ClassFile.FieldType.int)) ∈ lw_all := lw_g (lw_at lw_m8 7 rfl) rfl
theorem q1775 : (Jvm.Cond.methodLink "ParityMaze$Maze" (242 : Nat) ({ cls := "ParityMaze$Maze", name := "waits", desc := "([I)Z" } : Jvm.MethodName)) ∈ lw_all := lw_g (lw_at lw_m8 8 rfl) rfl
theorem q1776 : (Jvm.Cond.privateMethod ({ cls := "ParityMaze$Maze", name := "waits", desc := "([I)Z" } : Jvm.MethodName)) ∈ lw_tbl := lw_at lw_m8 9 rfl
theorem q1777 : (Jvm.Cond.instanceMethod ({ cls := "ParityMaze$Maze", name := "waits", desc := "([I)Z" } : Jvm.MethodName)) ∈ lw_all := lw_g (lw_at lw_m8 10 rfl) rfl
theorem q1778 : (Jvm.Cond.code ({ cls := "ParityMaze$Maze", name := "waits", desc := "([I)Z" } : Jvm.MethodName) prog_4_method_30_code (4 : Nat) (Option.some Jvm.ClassFile.FieldType.boolean)) ∈ lw_all := lw_g (lw_at lw_m8 11 rfl) rfl
theorem q1779 : (Jvm.Cond.methodLink "ParityMaze$Maze" (256 : Nat) ({ cls := "ParityMaze$Maze", name := "isLowered", desc := "([III)Z" } : Jvm.MethodName)) ∈ lw_all := lw_g (lw_at lw_m8 12 rfl) rfl
theorem q1780 : (Jvm.Cond.static ({ cls := "ParityMaze$Maze", name := "isLowered", desc := "([III)Z" } : Jvm.MethodName)) ∈ lw_all := lw_g (lw_at lw_m8 13 rfl) rfl
theorem q1781 : (Jvm.Cond.code ({ cls := "ParityMaze$Maze", name := "isLowered", desc := "([III)Z" } : Jvm.MethodName) prog_4_method_29_code (4 : Nat) (Option.some Jvm.ClassFile.FieldType.boolean)) ∈ lw_all := lw_g (lw_at lw_m8 14 rfl) rfl
theorem q1782 : (Jvm.Cond.methodLink "ParityMaze$Maze" (249 : Nat) ({ cls := "ParityMaze$Maze", name := "lowers", desc := "([ILParityMaze$Door;I)Z" } : Jvm.MethodName)) ∈ lw_all := lw_g (lw_at lw_m8 15 rfl) rfl
theorem q1783 : (Jvm.Cond.privateMethod ({ cls := "ParityMaze$Maze", name := "lowers", desc := "([ILParityMaze$Door;I)Z" } : Jvm.MethodName)) ∈ lw_tbl := lw_at lw_m8 16 rfl
theorem q1784 : (Jvm.Cond.instanceMethod ({ cls := "ParityMaze$Maze", name := "lowers", desc := "([ILParityMaze$Door;I)Z" } : Jvm.MethodName)) ∈ lw_all := lw_g (lw_at lw_m8 17 rfl) rfl
theorem q1785 : (Jvm.Cond.code ({ cls := "ParityMaze$Maze", name := "lowers", desc := "([ILParityMaze$Door;I)Z" } : Jvm.MethodName) prog_4_method_31_code (8 : Nat) (Option.some Jvm.ClassFile.FieldType.boolean)) ∈ lw_all := lw_g (lw_at lw_m8 18 rfl) rfl
theorem q1791 : (Jvm.Cond.instanceMethod ({ cls := "ParityMaze$Maze", name := "told", desc := "(III)Ljava/util/LinkedList;" } : Jvm.MethodName)) ∈ lw_all := lw_g (lw_at lw_m8 24 rfl) rfl
theorem q1792 : (Jvm.Cond.selects "ParityMaze$Maze" ({ cls := "ParityMaze$Maze", name := "told", desc := "(III)Ljava/util/LinkedList;" } : Jvm.MethodName) ({ cls := "ParityMaze$Maze", name := "told", desc := "(III)Ljava/util/LinkedList;" } : Jvm.MethodName)) ∈ lw_all := lw_g (lw_at lw_m8 25 rfl) rfl
theorem q1793 : (Jvm.Cond.code ({ cls := "ParityMaze$Maze", name := "told", desc := "(III)Ljava/util/LinkedList;" } : Jvm.MethodName) prog_4_method_32_code (7 : Nat) (Option.some (Jvm.ClassFile.FieldType.object "java/util/LinkedList"))) ∈ lw_all := lw_g (lw_at lw_m8 26 rfl) rfl
theorem q1794 : (Jvm.Cond.methodLink "ParityMaze$Maze" (260 : Nat) ({ cls := "ParityMaze$Maze", name := "leftTo", desc := "(I)[I" } : Jvm.MethodName)) ∈ lw_all := lw_g (lw_at lw_m8 27 rfl) rfl
theorem q1795 : (Jvm.Cond.privateMethod ({ cls := "ParityMaze$Maze", name := "leftTo", desc := "(I)[I" } : Jvm.MethodName)) ∈ lw_tbl := lw_at lw_m8 28 rfl
theorem q1796 : (Jvm.Cond.instanceMethod ({ cls := "ParityMaze$Maze", name := "leftTo", desc := "(I)[I" } : Jvm.MethodName)) ∈ lw_all := lw_g (lw_at lw_m8 29 rfl) rfl
theorem q1797 : (Jvm.Cond.code ({ cls := "ParityMaze$Maze", name := "leftTo", desc := "(I)[I" } : Jvm.MethodName) prog_4_method_33_code (6 : Nat) (Option.some (Jvm.ClassFile.FieldType.array Jvm.ClassFile.FieldType.int))) ∈ lw_all := lw_g (lw_at lw_m8 30 rfl) rfl
theorem q1798 : (Jvm.Cond.methodLink "ParityMaze$Maze" (270 : Nat) ({ cls := "ParityMaze$Maze", name := "comesBack", desc := "([ILParityMaze$Door;I)Z" } : Jvm.MethodName)) ∈ lw_all := lw_g (lw_at lw_m8 31 rfl) rfl
theorem q1799 : (Jvm.Cond.privateMethod ({ cls := "ParityMaze$Maze", name := "comesBack", desc := "([ILParityMaze$Door;I)Z" } : Jvm.MethodName)) ∈ lw_tbl := lw_at lw_m8 32 rfl
theorem q1800 : (Jvm.Cond.instanceMethod ({ cls := "ParityMaze$Maze", name := "comesBack", desc := "([ILParityMaze$Door;I)Z" } : Jvm.MethodName)) ∈ lw_all := lw_g (lw_at lw_m8 33 rfl) rfl
theorem q1801 : (Jvm.Cond.code ({ cls := "ParityMaze$Maze", name := "comesBack", desc := "([ILParityMaze$Door;I)Z" } : Jvm.MethodName) prog_4_method_34_code (8 : Nat) (Option.some Jvm.ClassFile.FieldType.boolean)) ∈ lw_all := lw_g (lw_at lw_m8 34 rfl) rfl
theorem q1802 : (Jvm.Cond.methodLink "ParityMaze$Maze" (264 : Nat) ({ cls := "ParityMaze$Spot", name := "hashCode", desc := "()I" } : Jvm.MethodName)) ∈ lw_all := lw_g (lw_at lw_m8 35 rfl) rfl
theorem q1803 : (Jvm.Cond.methodLink "ParityMaze$Maze" (267 : Nat) ({ cls := "ParityMaze$Maze", name := "next", desc := "(LParityMaze$Spot;[I)LParityMaze$Spot;" } : Jvm.MethodName)) ∈ lw_all := lw_g (lw_at lw_m8 36 rfl) rfl
theorem q1804 : (Jvm.Cond.privateMethod ({ cls := "ParityMaze$Maze", name := "next", desc := "(LParityMaze$Spot;[I)LParityMaze$Spot;" } : Jvm.MethodName)) ∈ lw_tbl := lw_at lw_m8 37 rfl
theorem q1805 : (Jvm.Cond.instanceMethod ({ cls := "ParityMaze$Maze", name := "next", desc := "(LParityMaze$Spot;[I)LParityMaze$Spot;" } : Jvm.MethodName)) ∈ lw_all := lw_g (lw_at lw_m8 38 rfl) rfl
theorem q1806 : (Jvm.Cond.code ({ cls := "ParityMaze$Maze", name := "next", desc := "(LParityMaze$Spot;[I)LParityMaze$Spot;" } : Jvm.MethodName) prog_4_method_35_code (6 : Nat) (Option.some (Jvm.ClassFile.FieldType.object "ParityMaze$Spot"))) ∈ lw_all := lw_g (lw_at lw_m8 39 rfl) rfl
theorem q1832 : (Jvm.Cond.instanceMethod ({ cls := "ParityMaze$Maze", name := "longerBack", desc := "(III)I" } : Jvm.MethodName)) ∈ lw_all := lw_g (lw_at lw_m8 65 rfl) rfl
theorem q1833 : (Jvm.Cond.selects "ParityMaze$Maze" ({ cls := "ParityMaze$Maze", name := "longerBack", desc := "(III)I" } : Jvm.MethodName) ({ cls := "ParityMaze$Maze", name := "longerBack", desc := "(III)I" } : Jvm.MethodName)) ∈ lw_all := lw_g (lw_at lw_m8 66 rfl) rfl
theorem q1834 : (Jvm.Cond.code ({ cls := "ParityMaze$Maze", name := "longerBack", desc := "(III)I" } : Jvm.MethodName) prog_4_method_36_code (5 : Nat) (Option.some Jvm.ClassFile.FieldType.int)) ∈ lw_all := lw_g (lw_at lw_m8 67 rfl) rfl
theorem q1840 : (Jvm.Cond.instanceMethod ({ cls := "ParityMaze$Maze", name := "reach", desc := "()I" } : Jvm.MethodName)) ∈ lw_all := lw_g (lw_at lw_m8 73 rfl) rfl
theorem q1841 : (Jvm.Cond.selects "ParityMaze$Maze" ({ cls := "ParityMaze$Maze", name := "reach", desc := "()I" } : Jvm.MethodName) ({ cls := "ParityMaze$Maze", name := "reach", desc := "()I" } : Jvm.MethodName)) ∈ lw_all := lw_g (lw_at lw_m8 74 rfl) rfl
theorem q1842 : (Jvm.Cond.code ({ cls := "ParityMaze$Maze", name := "reach", desc := "()I" } : Jvm.MethodName) prog_4_method_38_code (4 : Nat) (Option.some Jvm.ClassFile.FieldType.int)) ∈ lw_all := lw_g (lw_at lw_m8 75 rfl) rfl
theorem q1843 : (Jvm.Cond.methodLink "ParityMaze$Maze" (277 : Nat) ({ cls := "ParityMaze$Maze", name := "nearWalker", desc := "()Ljava/util/LinkedHashMap;" } : Jvm.MethodName)) ∈ lw_all := lw_g (lw_at lw_m8 76 rfl) rfl
theorem q1844 : (Jvm.Cond.privateMethod ({ cls := "ParityMaze$Maze", name := "nearWalker", desc := "()Ljava/util/LinkedHashMap;" } : Jvm.MethodName)) ∈ lw_tbl := lw_at lw_m8 77 rfl
theorem q1845 : (Jvm.Cond.instanceMethod ({ cls := "ParityMaze$Maze", name := "nearWalker", desc := "()Ljava/util/LinkedHashMap;" } : Jvm.MethodName)) ∈ lw_all := lw_g (lw_at lw_m8 78 rfl) rfl
theorem q1846 : (Jvm.Cond.code ({ cls := "ParityMaze$Maze", name := "nearWalker", desc := "()Ljava/util/LinkedHashMap;" } : Jvm.MethodName) prog_4_method_37_code (1 : Nat) (Option.some (Jvm.ClassFile.FieldType.object "java/util/LinkedHashMap"))) ∈ lw_all := lw_g (lw_at lw_m8 79 rfl) rfl
theorem q1847 : (Jvm.Cond.methodLink "ParityMaze$Maze" (281 : Nat) ({ cls := "java/util/LinkedHashMap", name := "keySet", desc := "()Ljava/util/Set;" } : Jvm.MethodName)) ∈ lw_all := lw_g (lw_at lw_m8 80 rfl) rfl
theorem q1869 : (Jvm.Cond.interfaceEntry "ParityMaze$Maze" (285 : Nat)) ∈ lw_tbl := lw_at lw_m8 102 rfl
theorem q1870 : (Jvm.Cond.methodLink "ParityMaze$Maze" (285 : Nat) ({ cls := "java/util/Set", name := "iterator", desc := "()Ljava/util/Iterator;" } : Jvm.MethodName)) ∈ lw_all := lw_g (lw_at lw_m8 103 rfl) rfl
theorem q1953 : (Jvm.Cond.instanceMethod ({ cls := "ParityMaze$Maze", name := "nearestKey", desc := "(I)I" } : Jvm.MethodName)) ∈ lw_all := lw_g (lw_at lw_m8 186 rfl) rfl
theorem q1954 : (Jvm.Cond.selects "ParityMaze$Maze" ({ cls := "ParityMaze$Maze", name := "nearestKey", desc := "(I)I" } : Jvm.MethodName) ({ cls := "ParityMaze$Maze", name := "nearestKey", desc := "(I)I" } : Jvm.MethodName)) ∈ lw_all := lw_g (lw_at lw_m8 187 rfl) rfl
theorem q1955 : (Jvm.Cond.code ({ cls := "ParityMaze$Maze", name := "nearestKey", desc := "(I)I" } : Jvm.MethodName) prog_4_method_39_code (6 : Nat) (Option.some Jvm.ClassFile.FieldType.int)) ∈ lw_all := lw_g (lw_at lw_m8 188 rfl) rfl
theorem q1961 : (Jvm.Cond.instanceMethod ({ cls := "ParityMaze$Maze", name := "ranked", desc := "(I)I" } : Jvm.MethodName)) ∈ lw_all := lw_g (lw_at lw_m8 194 rfl) rfl
theorem q1962 : (Jvm.Cond.selects "ParityMaze$Maze" ({ cls := "ParityMaze$Maze", name := "ranked", desc := "(I)I" } : Jvm.MethodName) ({ cls := "ParityMaze$Maze", name := "ranked", desc := "(I)I" } : Jvm.MethodName)) ∈ lw_all := lw_g (lw_at lw_m8 195 rfl) rfl
theorem q1963 : (Jvm.Cond.code ({ cls := "ParityMaze$Maze", name := "ranked", desc := "(I)I" } : Jvm.MethodName) prog_4_method_41_code (6 : Nat) (Option.some Jvm.ClassFile.FieldType.int)) ∈ lw_all := lw_g (lw_at lw_m8 196 rfl) rfl
theorem q1964 : (Jvm.Cond.methodLink "ParityMaze$Maze" (288 : Nat) ({ cls := "ParityMaze$Maze", name := "isNearer", desc := "(Ljava/util/LinkedHashMap;II)Z" } : Jvm.MethodName)) ∈ lw_all := lw_g (lw_at lw_m8 197 rfl) rfl
theorem q1965 : (Jvm.Cond.static ({ cls := "ParityMaze$Maze", name := "isNearer", desc := "(Ljava/util/LinkedHashMap;II)Z" } : Jvm.MethodName)) ∈ lw_all := lw_g (lw_at lw_m8 198 rfl) rfl
theorem q1966 : (Jvm.Cond.code ({ cls := "ParityMaze$Maze", name := "isNearer", desc := "(Ljava/util/LinkedHashMap;II)Z" } : Jvm.MethodName) prog_4_method_40_code (6 : Nat) (Option.some Jvm.ClassFile.FieldType.boolean)) ∈ lw_all := lw_g (lw_at lw_m8 199 rfl) rfl
theorem q2392 : (Jvm.Cond.instanceMethod ({ cls := "ParityMaze$Maze", name := "lit", desc := "()I" } : Jvm.MethodName)) ∈ lw_all := lw_g (lw_at lw_m10 145 rfl) rfl
theorem q2393 : (Jvm.Cond.selects "ParityMaze$Maze" ({ cls := "ParityMaze$Maze", name := "lit", desc := "()I" } : Jvm.MethodName) ({ cls := "ParityMaze$Maze", name := "lit", desc := "()I" } : Jvm.MethodName)) ∈ lw_all := lw_g (lw_at lw_m10 146 rfl) rfl
theorem q2394 : (Jvm.Cond.code ({ cls := "ParityMaze$Maze", name := "lit", desc := "()I" } : Jvm.MethodName) prog_4_method_45_code (4 : Nat) (Option.some Jvm.ClassFile.FieldType.int)) ∈ lw_all := lw_g (lw_at lw_m10 147 rfl) rfl
theorem q2396 : (Jvm.Cond.instanceMethod ({ cls := "ParityMaze$Maze", name := "shut", desc := "()I" } : Jvm.MethodName)) ∈ lw_all := lw_g (lw_at lw_m10 149 rfl) rfl
theorem q2397 : (Jvm.Cond.selects "ParityMaze$Maze" ({ cls := "ParityMaze$Maze", name := "shut", desc := "()I" } : Jvm.MethodName) ({ cls := "ParityMaze$Maze", name := "shut", desc := "()I" } : Jvm.MethodName)) ∈ lw_all := lw_g (lw_at lw_m10 150 rfl) rfl
theorem q2398 : (Jvm.Cond.code ({ cls := "ParityMaze$Maze", name := "shut", desc := "()I" } : Jvm.MethodName) prog_4_method_46_code (4 : Nat) (Option.some Jvm.ClassFile.FieldType.int)) ∈ lw_all := lw_g (lw_at lw_m10 151 rfl) rfl
theorem q2400 : (Jvm.Cond.instanceMethod ({ cls := "ParityMaze$Maze", name := "lying", desc := "()I" } : Jvm.MethodName)) ∈ lw_all := lw_g (lw_at lw_m10 153 rfl) rfl
theorem q2401 : (Jvm.Cond.selects "ParityMaze$Maze" ({ cls := "ParityMaze$Maze", name := "lying", desc := "()I" } : Jvm.MethodName) ({ cls := "ParityMaze$Maze", name := "lying", desc := "()I" } : Jvm.MethodName)) ∈ lw_all := lw_g (lw_at lw_m10 154 rfl) rfl
theorem q2402 : (Jvm.Cond.code ({ cls := "ParityMaze$Maze", name := "lying", desc := "()I" } : Jvm.MethodName) prog_4_method_47_code (4 : Nat) (Option.some Jvm.ClassFile.FieldType.int)) ∈ lw_all := lw_g (lw_at lw_m10 155 rfl) rfl
theorem q2403 : (Jvm.Cond.methodLinkNest "ParityMaze$Maze" (313 : Nat) ({ cls := "ParityMaze", name := "sum", desc := "([I)I" } : Jvm.MethodName) "ParityMaze") ∈ lw_tbl := lw_at lw_m10 156 rfl
theorem q2407 : (Jvm.Cond.instanceMethod ({ cls := "ParityMaze$Maze", name := "inHand", desc := "()I" } : Jvm.MethodName)) ∈ lw_all := lw_g (lw_at lw_m10 160 rfl) rfl
theorem q2408 : (Jvm.Cond.selects "ParityMaze$Maze" ({ cls := "ParityMaze$Maze", name := "inHand", desc := "()I" } : Jvm.MethodName) ({ cls := "ParityMaze$Maze", name := "inHand", desc := "()I" } : Jvm.MethodName)) ∈ lw_all := lw_g (lw_at lw_m10 161 rfl) rfl
theorem q2409 : (Jvm.Cond.code ({ cls := "ParityMaze$Maze", name := "inHand", desc := "()I" } : Jvm.MethodName) prog_4_method_48_code (1 : Nat) (Option.some Jvm.ClassFile.FieldType.int)) ∈ lw_all := lw_g (lw_at lw_m10 162 rfl) rfl
theorem q2411 : (Jvm.Cond.instanceMethod ({ cls := "ParityMaze$Maze", name := "allOil", desc := "()I" } : Jvm.MethodName)) ∈ lw_all := lw_g (lw_at lw_m10 164 rfl) rfl
theorem q2412 : (Jvm.Cond.selects "ParityMaze$Maze" ({ cls := "ParityMaze$Maze", name := "allOil", desc := "()I" } : Jvm.MethodName) ({ cls := "ParityMaze$Maze", name := "allOil", desc := "()I" } : Jvm.MethodName)) ∈ lw_all := lw_g (lw_at lw_m10 165 rfl) rfl
theorem q2413 : (Jvm.Cond.code ({ cls := "ParityMaze$Maze", name := "allOil", desc := "()I" } : Jvm.MethodName) prog_4_method_49_code (4 : Nat) (Option.some Jvm.ClassFile.FieldType.int)) ∈ lw_all := lw_g (lw_at lw_m10 166 rfl) rfl
theorem q2419 : (Jvm.Cond.instanceMethod ({ cls := "ParityMaze$Maze", name := "isBalanced", desc := "()Z" } : Jvm.MethodName)) ∈ lw_all := lw_g (lw_at lw_m10 172 rfl) rfl
theorem q2420 : (Jvm.Cond.selects "ParityMaze$Maze" ({ cls := "ParityMaze$Maze", name := "isBalanced", desc := "()Z" } : Jvm.MethodName) ({ cls := "ParityMaze$Maze", name := "isBalanced", desc := "()Z" } : Jvm.MethodName)) ∈ lw_all := lw_g (lw_at lw_m10 173 rfl) rfl
theorem q2421 : (Jvm.Cond.code ({ cls := "ParityMaze$Maze", name := "isBalanced", desc := "()Z" } : Jvm.MethodName) prog_4_method_51_code (3 : Nat) (Option.some Jvm.ClassFile.FieldType.boolean)) ∈ lw_all := lw_g (lw_at lw_m10 174 rfl) rfl
theorem q2422 : (Jvm.Cond.methodLink "ParityMaze$Maze" (320 : Nat) ({ cls := "ParityMaze$Maze", name := "lying", desc := "()I" } : Jvm.MethodName)) ∈ lw_all := lw_g (lw_at lw_m10 175 rfl) rfl
theorem q2423 : (Jvm.Cond.methodLink "ParityMaze$Maze" (323 : Nat) ({ cls := "ParityMaze$Maze", name := "inHand", desc := "()I" } : Jvm.MethodName)) ∈ lw_all := lw_g (lw_at lw_m10 176 rfl) rfl
theorem q2424 : (Jvm.Cond.methodLink "ParityMaze$Maze" (326 : Nat) ({ cls := "ParityMaze$Maze", name := "areAlike", desc := "(II)Z" } : Jvm.MethodName)) ∈ lw_all := lw_g (lw_at lw_m10 177 rfl) rfl
theorem q2425 : (Jvm.Cond.privateMethod ({ cls := "ParityMaze$Maze", name := "areAlike", desc := "(II)Z" } : Jvm.MethodName)) ∈ lw_tbl := lw_at lw_m10 178 rfl
theorem q2426 : (Jvm.Cond.instanceMethod ({ cls := "ParityMaze$Maze", name := "areAlike", desc := "(II)Z" } : Jvm.MethodName)) ∈ lw_all := lw_g (lw_at lw_m10 179 rfl) rfl
theorem q2427 : (Jvm.Cond.code ({ cls := "ParityMaze$Maze", name := "areAlike", desc := "(II)Z" } : Jvm.MethodName) prog_4_method_50_code (6 : Nat) (Option.some Jvm.ClassFile.FieldType.boolean)) ∈ lw_all := lw_g (lw_at lw_m10 180 rfl) rfl
theorem q2428 : (Jvm.Cond.methodLink "ParityMaze$Maze" (317 : Nat) ({ cls := "ParityMaze$Maze", name := "wayAgain", desc := "(III)I" } : Jvm.MethodName)) ∈ lw_all := lw_g (lw_at lw_m10 181 rfl) rfl
theorem q2888 : (Jvm.Cond.castable "ParityMaze$Maze" "java/lang/Object") ∈ lw_tbl := lw_at lw_m12 161 rfl
theorem in_X1 : ∀ w ∈ wsX10, w ∈ lw_all := lw_in wsX10 [202, 204, 206, 208, 210, 212, 214, 216] (by decide +kernel) (by decide +kernel)
