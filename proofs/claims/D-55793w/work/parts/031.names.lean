/-! ParityMazeModel -/
set_option maxRecDepth 100000
def RX2 : String := "ParityMazeModel"
def TX2 : u_T := fun k => match k with
  | 0 => ("ParityMazeModel", "g", "[I", true)
  | 1 => ("ParityMazeModel", "kept", "[I", true)
  | 2 => ("ParityMazeModel", "saved", "[I", true)
  | 3 => ("ParityMazeModel", "before", "[I", true)
  | 4 => ("ParityMazeModel", "isSaved", "Z", false)
  | 5 => ("ParityMazeModel", "changes", "I", false)
  | 6 => ("ParityMazeModel", "isWithin", "Z", false)
  | 7 => ("ParityMazeModel", "why", "I", false)
  | 8 => ("ParityMazeModel", "detail", "I", false)
  | 9 => ("ParityMazeModel", "input", "[I", true)
  | 10 => ("ParityMazeModel", "length", "I", false)
  | 11 => ("ParityMazeModel", "signs", "[I", true)
  | 12 => ("ParityMazeModel", "signMany", "I", false)
  | 13 => ("ParityMazeModel", "steps", "[I", true)
  | 14 => ("ParityMazeModel", "onward", "[I", true)
  | 15 => ("ParityMazeModel", "at", "I", false)
  | 16 => ("ParityMazeModel", "told", "[I", true)
  | _ => ("ParityMazeModel", "toldMany", "I", false)
def tyX2 : Nat → FieldType := fun k => match k with
  | 0 => .array .int
  | 1 => .array .int
  | 2 => .array .int
  | 3 => .array .int
  | 4 => .boolean
  | 5 => .int
  | 6 => .boolean
  | 7 => .int
  | 8 => .int
  | 9 => .array .int
  | 10 => .int
  | 11 => .array .int
  | 12 => .int
  | 13 => .array .int
  | 14 => .array .int
  | 15 => .int
  | 16 => .array .int
  | _ => .int
abbrev wsX20 : List Cond := u_ws RX2 TX2 18
set_option maxRecDepth 100000 in
theorem nmX2 : ∀ a, a < 18 → ∀ b, b < 18 → a ≠ b → (TX2 a).2.1 ≠ (TX2 b).2.1 := by decide +kernel
set_option maxRecDepth 100000 in
theorem tyX2_ok : ∀ k, k < 18 → parseFieldDescriptor (TX2 k).2.2.1 = some (tyX2 k) := by decide +kernel
abbrev cX2_init : ByteArray := prog_11_method_1_code
def yX2_init : MethodName := ⟨RX2, "<init>", "()V"⟩
def dkwX2_init_3 : List UInt8 := [181, 0, 31, 42, 17, 0, 186, 188, 10, 181, 0, 34, 42, 180, 0, 7, 5, 2, 79, 177]
abbrev dktX2_init_3 : List UInt8 := dkwX2_init_3 ++ []
def dkwX2_init_2 : List UInt8 := [181, 0, 22, 42, 16, 60, 188, 10, 181, 0, 25, 42, 16, 20, 188, 10, 181, 0, 28, 42, 16, 20, 188, 10]
abbrev dktX2_init_2 : List UInt8 := dkwX2_init_2 ++ dktX2_init_3
def dkwX2_init_1 : List UInt8 := [17, 0, 146, 188, 10, 181, 0, 16, 42, 17, 0, 146, 188, 10, 181, 0, 19, 42, 16, 60, 188, 10]
abbrev dktX2_init_1 : List UInt8 := dkwX2_init_1 ++ dktX2_init_2
def dkwX2_init_0 : List UInt8 := [42, 183, 0, 1, 42, 17, 0, 146, 188, 10, 181, 0, 7, 42, 17, 4, 144, 188, 10, 181, 0, 13, 42]
abbrev dktX2_init_0 : List UInt8 := dkwX2_init_0 ++ dktX2_init_1
theorem dksX2_init_0 : cX2_init.data.toList.drop 0 = dktX2_init_0 := by decide +kernel
theorem dksX2_init_1 : cX2_init.data.toList.drop 23 = dktX2_init_1 := dk_seg dksX2_init_0 23 rfl rfl
theorem dksX2_init_2 : cX2_init.data.toList.drop 45 = dktX2_init_2 := dk_seg dksX2_init_1 22 rfl rfl
theorem dksX2_init_3 : cX2_init.data.toList.drop 69 = dktX2_init_3 := dk_seg dksX2_init_2 24 rfl rfl
theorem dX2_init_0 : decode cX2_init 0 = .ok (.aload_n 0, 1) := dk_42 (dk_at dksX2_init_0 0 rfl rfl)
theorem dX2_init_1 : decode cX2_init 1 = .ok (.invokespecial 1, 3) := dk_183 0 1 (dk_at dksX2_init_0 1 rfl rfl)
theorem dX2_init_4 : decode cX2_init 4 = .ok (.aload_n 0, 1) := dk_42 (dk_at dksX2_init_0 4 rfl rfl)
theorem dX2_init_5 : decode cX2_init 5 = .ok (.sipush 146, 3) := dk_17 0 146 (dk_at dksX2_init_0 5 rfl rfl)
theorem dX2_init_8 : decode cX2_init 8 = .ok (.newarray .int, 2) := dk_188_10 (dk_at dksX2_init_0 8 rfl rfl)
theorem dX2_init_10 : decode cX2_init 10 = .ok (.putfield 7, 3) := dk_181 0 7 (dk_at dksX2_init_0 10 rfl rfl)
theorem dX2_init_13 : decode cX2_init 13 = .ok (.aload_n 0, 1) := dk_42 (dk_at dksX2_init_0 13 rfl rfl)
theorem dX2_init_14 : decode cX2_init 14 = .ok (.sipush 1168, 3) := dk_17 4 144 (dk_at dksX2_init_0 14 rfl rfl)
theorem dX2_init_17 : decode cX2_init 17 = .ok (.newarray .int, 2) := dk_188_10 (dk_at dksX2_init_0 17 rfl rfl)
theorem dX2_init_19 : decode cX2_init 19 = .ok (.putfield 13, 3) := dk_181 0 13 (dk_at dksX2_init_0 19 rfl rfl)
theorem dX2_init_22 : decode cX2_init 22 = .ok (.aload_n 0, 1) := dk_42 (dk_at dksX2_init_0 22 rfl rfl)
theorem dX2_init_23 : decode cX2_init 23 = .ok (.sipush 146, 3) := dk_17 0 146 (dk_at dksX2_init_1 0 rfl rfl)
theorem dX2_init_26 : decode cX2_init 26 = .ok (.newarray .int, 2) := dk_188_10 (dk_at dksX2_init_1 3 rfl rfl)
theorem dX2_init_28 : decode cX2_init 28 = .ok (.putfield 16, 3) := dk_181 0 16 (dk_at dksX2_init_1 5 rfl rfl)
theorem dX2_init_31 : decode cX2_init 31 = .ok (.aload_n 0, 1) := dk_42 (dk_at dksX2_init_1 8 rfl rfl)
theorem dX2_init_32 : decode cX2_init 32 = .ok (.sipush 146, 3) := dk_17 0 146 (dk_at dksX2_init_1 9 rfl rfl)
theorem dX2_init_35 : decode cX2_init 35 = .ok (.newarray .int, 2) := dk_188_10 (dk_at dksX2_init_1 12 rfl rfl)
theorem dX2_init_37 : decode cX2_init 37 = .ok (.putfield 19, 3) := dk_181 0 19 (dk_at dksX2_init_1 14 rfl rfl)
theorem dX2_init_40 : decode cX2_init 40 = .ok (.aload_n 0, 1) := dk_42 (dk_at dksX2_init_1 17 rfl rfl)
theorem dX2_init_41 : decode cX2_init 41 = .ok (.bipush 60, 2) := dk_16 60 (dk_at dksX2_init_1 18 rfl rfl)
theorem dX2_init_43 : decode cX2_init 43 = .ok (.newarray .int, 2) := dk_188_10 (dk_at dksX2_init_1 20 rfl rfl)
theorem dX2_init_45 : decode cX2_init 45 = .ok (.putfield 22, 3) := dk_181 0 22 (dk_at dksX2_init_2 0 rfl rfl)
theorem dX2_init_48 : decode cX2_init 48 = .ok (.aload_n 0, 1) := dk_42 (dk_at dksX2_init_2 3 rfl rfl)
theorem dX2_init_49 : decode cX2_init 49 = .ok (.bipush 60, 2) := dk_16 60 (dk_at dksX2_init_2 4 rfl rfl)
theorem dX2_init_51 : decode cX2_init 51 = .ok (.newarray .int, 2) := dk_188_10 (dk_at dksX2_init_2 6 rfl rfl)
theorem dX2_init_53 : decode cX2_init 53 = .ok (.putfield 25, 3) := dk_181 0 25 (dk_at dksX2_init_2 8 rfl rfl)
theorem dX2_init_56 : decode cX2_init 56 = .ok (.aload_n 0, 1) := dk_42 (dk_at dksX2_init_2 11 rfl rfl)
theorem dX2_init_57 : decode cX2_init 57 = .ok (.bipush 20, 2) := dk_16 20 (dk_at dksX2_init_2 12 rfl rfl)
theorem dX2_init_59 : decode cX2_init 59 = .ok (.newarray .int, 2) := dk_188_10 (dk_at dksX2_init_2 14 rfl rfl)
theorem dX2_init_61 : decode cX2_init 61 = .ok (.putfield 28, 3) := dk_181 0 28 (dk_at dksX2_init_2 16 rfl rfl)
theorem dX2_init_64 : decode cX2_init 64 = .ok (.aload_n 0, 1) := dk_42 (dk_at dksX2_init_2 19 rfl rfl)
theorem dX2_init_65 : decode cX2_init 65 = .ok (.bipush 20, 2) := dk_16 20 (dk_at dksX2_init_2 20 rfl rfl)
theorem dX2_init_67 : decode cX2_init 67 = .ok (.newarray .int, 2) := dk_188_10 (dk_at dksX2_init_2 22 rfl rfl)
theorem dX2_init_69 : decode cX2_init 69 = .ok (.putfield 31, 3) := dk_181 0 31 (dk_at dksX2_init_3 0 rfl rfl)
theorem dX2_init_72 : decode cX2_init 72 = .ok (.aload_n 0, 1) := dk_42 (dk_at dksX2_init_3 3 rfl rfl)
theorem dX2_init_73 : decode cX2_init 73 = .ok (.sipush 186, 3) := dk_17 0 186 (dk_at dksX2_init_3 4 rfl rfl)
theorem dX2_init_76 : decode cX2_init 76 = .ok (.newarray .int, 2) := dk_188_10 (dk_at dksX2_init_3 7 rfl rfl)
theorem dX2_init_78 : decode cX2_init 78 = .ok (.putfield 34, 3) := dk_181 0 34 (dk_at dksX2_init_3 9 rfl rfl)
theorem dX2_init_81 : decode cX2_init 81 = .ok (.aload_n 0, 1) := dk_42 (dk_at dksX2_init_3 12 rfl rfl)
theorem dX2_init_82 : decode cX2_init 82 = .ok (.getfield 7, 3) := dk_180 0 7 (dk_at dksX2_init_3 13 rfl rfl)
theorem dX2_init_85 : decode cX2_init 85 = .ok (.iconst 2, 1) := dk_5 (dk_at dksX2_init_3 16 rfl rfl)
theorem dX2_init_86 : decode cX2_init 86 = .ok (.iconst (-1), 1) := dk_2 (dk_at dksX2_init_3 17 rfl rfl)
theorem dX2_init_87 : decode cX2_init 87 = .ok (.iastore, 1) := dk_79 (dk_at dksX2_init_3 18 rfl rfl)
theorem dX2_init_88 : decode cX2_init 88 = .ok (.return_, 1) := dk_177 (dk_at dksX2_init_3 19 rfl rfl)
abbrev cX2_room : ByteArray := prog_11_method_11_code
def yX2_room : MethodName := ⟨RX2, "room", "(I)I"⟩
def dkwX2_room_3 : List UInt8 := [180, 0, 7, 5, 46, 156, 0, 10, 42, 180, 0, 7, 5, 3, 79, 42, 180, 0, 7, 3, 46, 4, 100, 172]
abbrev dktX2_room_3 : List UInt8 := dkwX2_room_3 ++ []
def dkwX2_room_2 : List UInt8 := [16, 10, 7, 42, 180, 0, 7, 3, 46, 104, 96, 27, 79, 42, 180, 0, 7, 3, 92, 46, 4, 96, 79, 42]
abbrev dktX2_room_2 : List UInt8 := dkwX2_room_2 ++ dktX2_room_3
def dkwX2_room_1 : List UInt8 := [160, 0, 11, 42, 4, 16, 10, 182, 0, 59, 172, 42, 42, 180, 0, 7, 182, 0, 63, 42, 180, 0, 7]
abbrev dktX2_room_1 : List UInt8 := dkwX2_room_1 ++ dktX2_room_2
def dkwX2_room_0 : List UInt8 := [27, 3, 16, 50, 184, 0, 55, 154, 0, 7, 17, 252, 12, 172, 42, 180, 0, 7, 3, 46, 16, 10]
abbrev dktX2_room_0 : List UInt8 := dkwX2_room_0 ++ dktX2_room_1
theorem dksX2_room_0 : cX2_room.data.toList.drop 0 = dktX2_room_0 := by decide +kernel
theorem dksX2_room_1 : cX2_room.data.toList.drop 22 = dktX2_room_1 := dk_seg dksX2_room_0 22 rfl rfl
theorem dksX2_room_2 : cX2_room.data.toList.drop 45 = dktX2_room_2 := dk_seg dksX2_room_1 23 rfl rfl
theorem dksX2_room_3 : cX2_room.data.toList.drop 69 = dktX2_room_3 := dk_seg dksX2_room_2 24 rfl rfl
theorem dX2_room_0 : decode cX2_room 0 = .ok (.iload_n 1, 1) := dk_27 (dk_at dksX2_room_0 0 rfl rfl)
theorem dX2_room_1 : decode cX2_room 1 = .ok (.iconst 0, 1) := dk_3 (dk_at dksX2_room_0 1 rfl rfl)
theorem dX2_room_2 : decode cX2_room 2 = .ok (.bipush 50, 2) := dk_16 50 (dk_at dksX2_room_0 2 rfl rfl)
theorem dX2_room_4 : decode cX2_room 4 = .ok (.invokestatic 55, 3) := dk_184 0 55 (dk_at dksX2_room_0 4 rfl rfl)
theorem dX2_room_7 : decode cX2_room 7 = .ok (.ifCond .ne 7, 3) := dk_154 0 7 (dk_at dksX2_room_0 7 rfl rfl)
theorem dX2_room_10 : decode cX2_room 10 = .ok (.sipush (-1012), 3) := dk_17 252 12 (dk_at dksX2_room_0 10 rfl rfl)
theorem dX2_room_13 : decode cX2_room 13 = .ok (.ireturn, 1) := dk_172 (dk_at dksX2_room_0 13 rfl rfl)
theorem dX2_room_14 : decode cX2_room 14 = .ok (.aload_n 0, 1) := dk_42 (dk_at dksX2_room_0 14 rfl rfl)
theorem dX2_room_15 : decode cX2_room 15 = .ok (.getfield 7, 3) := dk_180 0 7 (dk_at dksX2_room_0 15 rfl rfl)
theorem dX2_room_18 : decode cX2_room 18 = .ok (.iconst 0, 1) := dk_3 (dk_at dksX2_room_0 18 rfl rfl)
theorem dX2_room_19 : decode cX2_room 19 = .ok (.iaload, 1) := dk_46 (dk_at dksX2_room_0 19 rfl rfl)
theorem dX2_room_20 : decode cX2_room 20 = .ok (.bipush 10, 2) := dk_16 10 (dk_at dksX2_room_0 20 rfl rfl)
theorem dX2_room_22 : decode cX2_room 22 = .ok (.if_icmp .ne 11, 3) := dk_160 0 11 (dk_at dksX2_room_1 0 rfl rfl)
theorem dX2_room_25 : decode cX2_room 25 = .ok (.aload_n 0, 1) := dk_42 (dk_at dksX2_room_1 3 rfl rfl)
theorem dX2_room_26 : decode cX2_room 26 = .ok (.iconst 1, 1) := dk_4 (dk_at dksX2_room_1 4 rfl rfl)
theorem dX2_room_27 : decode cX2_room 27 = .ok (.bipush 10, 2) := dk_16 10 (dk_at dksX2_room_1 5 rfl rfl)
theorem dX2_room_29 : decode cX2_room 29 = .ok (.invokevirtual 59, 3) := dk_182 0 59 (dk_at dksX2_room_1 7 rfl rfl)
theorem dX2_room_32 : decode cX2_room 32 = .ok (.ireturn, 1) := dk_172 (dk_at dksX2_room_1 10 rfl rfl)
theorem dX2_room_33 : decode cX2_room 33 = .ok (.aload_n 0, 1) := dk_42 (dk_at dksX2_room_1 11 rfl rfl)
theorem dX2_room_34 : decode cX2_room 34 = .ok (.aload_n 0, 1) := dk_42 (dk_at dksX2_room_1 12 rfl rfl)
theorem dX2_room_35 : decode cX2_room 35 = .ok (.getfield 7, 3) := dk_180 0 7 (dk_at dksX2_room_1 13 rfl rfl)
theorem dX2_room_38 : decode cX2_room 38 = .ok (.invokevirtual 63, 3) := dk_182 0 63 (dk_at dksX2_room_1 16 rfl rfl)
theorem dX2_room_41 : decode cX2_room 41 = .ok (.aload_n 0, 1) := dk_42 (dk_at dksX2_room_1 19 rfl rfl)
theorem dX2_room_42 : decode cX2_room 42 = .ok (.getfield 7, 3) := dk_180 0 7 (dk_at dksX2_room_1 20 rfl rfl)
theorem dX2_room_45 : decode cX2_room 45 = .ok (.bipush 10, 2) := dk_16 10 (dk_at dksX2_room_2 0 rfl rfl)
theorem dX2_room_47 : decode cX2_room 47 = .ok (.iconst 4, 1) := dk_7 (dk_at dksX2_room_2 2 rfl rfl)
theorem dX2_room_48 : decode cX2_room 48 = .ok (.aload_n 0, 1) := dk_42 (dk_at dksX2_room_2 3 rfl rfl)
theorem dX2_room_49 : decode cX2_room 49 = .ok (.getfield 7, 3) := dk_180 0 7 (dk_at dksX2_room_2 4 rfl rfl)
theorem dX2_room_52 : decode cX2_room 52 = .ok (.iconst 0, 1) := dk_3 (dk_at dksX2_room_2 7 rfl rfl)
theorem dX2_room_53 : decode cX2_room 53 = .ok (.iaload, 1) := dk_46 (dk_at dksX2_room_2 8 rfl rfl)
theorem dX2_room_54 : decode cX2_room 54 = .ok (.imul, 1) := dk_104 (dk_at dksX2_room_2 9 rfl rfl)
theorem dX2_room_55 : decode cX2_room 55 = .ok (.iadd, 1) := dk_96 (dk_at dksX2_room_2 10 rfl rfl)
theorem dX2_room_56 : decode cX2_room 56 = .ok (.iload_n 1, 1) := dk_27 (dk_at dksX2_room_2 11 rfl rfl)
theorem dX2_room_57 : decode cX2_room 57 = .ok (.iastore, 1) := dk_79 (dk_at dksX2_room_2 12 rfl rfl)
theorem dX2_room_58 : decode cX2_room 58 = .ok (.aload_n 0, 1) := dk_42 (dk_at dksX2_room_2 13 rfl rfl)
theorem dX2_room_59 : decode cX2_room 59 = .ok (.getfield 7, 3) := dk_180 0 7 (dk_at dksX2_room_2 14 rfl rfl)
theorem dX2_room_62 : decode cX2_room 62 = .ok (.iconst 0, 1) := dk_3 (dk_at dksX2_room_2 17 rfl rfl)
theorem dX2_room_63 : decode cX2_room 63 = .ok (.dup2, 1) := dk_92 (dk_at dksX2_room_2 18 rfl rfl)
theorem dX2_room_64 : decode cX2_room 64 = .ok (.iaload, 1) := dk_46 (dk_at dksX2_room_2 19 rfl rfl)
theorem dX2_room_65 : decode cX2_room 65 = .ok (.iconst 1, 1) := dk_4 (dk_at dksX2_room_2 20 rfl rfl)
theorem dX2_room_66 : decode cX2_room 66 = .ok (.iadd, 1) := dk_96 (dk_at dksX2_room_2 21 rfl rfl)
theorem dX2_room_67 : decode cX2_room 67 = .ok (.iastore, 1) := dk_79 (dk_at dksX2_room_2 22 rfl rfl)
theorem dX2_room_68 : decode cX2_room 68 = .ok (.aload_n 0, 1) := dk_42 (dk_at dksX2_room_2 23 rfl rfl)
theorem dX2_room_69 : decode cX2_room 69 = .ok (.getfield 7, 3) := dk_180 0 7 (dk_at dksX2_room_3 0 rfl rfl)
theorem dX2_room_72 : decode cX2_room 72 = .ok (.iconst 2, 1) := dk_5 (dk_at dksX2_room_3 3 rfl rfl)
theorem dX2_room_73 : decode cX2_room 73 = .ok (.iaload, 1) := dk_46 (dk_at dksX2_room_3 4 rfl rfl)
theorem dX2_room_74 : decode cX2_room 74 = .ok (.ifCond .ge 10, 3) := dk_156 0 10 (dk_at dksX2_room_3 5 rfl rfl)
theorem dX2_room_77 : decode cX2_room 77 = .ok (.aload_n 0, 1) := dk_42 (dk_at dksX2_room_3 8 rfl rfl)
theorem dX2_room_78 : decode cX2_room 78 = .ok (.getfield 7, 3) := dk_180 0 7 (dk_at dksX2_room_3 9 rfl rfl)
theorem dX2_room_81 : decode cX2_room 81 = .ok (.iconst 2, 1) := dk_5 (dk_at dksX2_room_3 12 rfl rfl)
theorem dX2_room_82 : decode cX2_room 82 = .ok (.iconst 0, 1) := dk_3 (dk_at dksX2_room_3 13 rfl rfl)
theorem dX2_room_83 : decode cX2_room 83 = .ok (.iastore, 1) := dk_79 (dk_at dksX2_room_3 14 rfl rfl)
theorem dX2_room_84 : decode cX2_room 84 = .ok (.aload_n 0, 1) := dk_42 (dk_at dksX2_room_3 15 rfl rfl)
theorem dX2_room_85 : decode cX2_room 85 = .ok (.getfield 7, 3) := dk_180 0 7 (dk_at dksX2_room_3 16 rfl rfl)
theorem dX2_room_88 : decode cX2_room 88 = .ok (.iconst 0, 1) := dk_3 (dk_at dksX2_room_3 19 rfl rfl)
theorem dX2_room_89 : decode cX2_room 89 = .ok (.iaload, 1) := dk_46 (dk_at dksX2_room_3 20 rfl rfl)
theorem dX2_room_90 : decode cX2_room 90 = .ok (.iconst 1, 1) := dk_4 (dk_at dksX2_room_3 21 rfl rfl)
theorem dX2_room_91 : decode cX2_room 91 = .ok (.isub, 1) := dk_100 (dk_at dksX2_room_3 22 rfl rfl)
theorem dX2_room_92 : decode cX2_room 92 = .ok (.ireturn, 1) := dk_172 (dk_at dksX2_room_3 23 rfl rfl)
abbrev cX2_in : ByteArray := prog_11_method_3_code
def yX2_in : MethodName := ⟨RX2, "in", "(III)Z"⟩
def dkwX2_in_0 : List UInt8 := [26, 27, 161, 0, 12, 26, 28, 163, 0, 7, 4, 167, 0, 4, 3, 172]
abbrev dktX2_in_0 : List UInt8 := dkwX2_in_0 ++ []
theorem dksX2_in_0 : cX2_in.data.toList.drop 0 = dktX2_in_0 := by decide +kernel
theorem dX2_in_0 : decode cX2_in 0 = .ok (.iload_n 0, 1) := dk_26 (dk_at dksX2_in_0 0 rfl rfl)
theorem dX2_in_1 : decode cX2_in 1 = .ok (.iload_n 1, 1) := dk_27 (dk_at dksX2_in_0 1 rfl rfl)
theorem dX2_in_2 : decode cX2_in 2 = .ok (.if_icmp .lt 12, 3) := dk_161 0 12 (dk_at dksX2_in_0 2 rfl rfl)
theorem dX2_in_5 : decode cX2_in 5 = .ok (.iload_n 0, 1) := dk_26 (dk_at dksX2_in_0 5 rfl rfl)
theorem dX2_in_6 : decode cX2_in 6 = .ok (.iload_n 2, 1) := dk_28 (dk_at dksX2_in_0 6 rfl rfl)
theorem dX2_in_7 : decode cX2_in 7 = .ok (.if_icmp .gt 7, 3) := dk_163 0 7 (dk_at dksX2_in_0 7 rfl rfl)
theorem dX2_in_10 : decode cX2_in 10 = .ok (.iconst 1, 1) := dk_4 (dk_at dksX2_in_0 10 rfl rfl)
theorem dX2_in_11 : decode cX2_in 11 = .ok (.goto 4, 3) := dk_167 0 4 (dk_at dksX2_in_0 11 rfl rfl)
theorem dX2_in_14 : decode cX2_in 14 = .ok (.iconst 0, 1) := dk_3 (dk_at dksX2_in_0 14 rfl rfl)
theorem dX2_in_15 : decode cX2_in 15 = .ok (.ireturn, 1) := dk_172 (dk_at dksX2_in_0 15 rfl rfl)
abbrev cX2_refuses : ByteArray := prog_11_method_2_code
def yX2_refuses : MethodName := ⟨RX2, "refuses", "(II)I"⟩
def dkwX2_refuses_0 : List UInt8 := [42, 27, 181, 0, 37, 42, 28, 181, 0, 41, 17, 252, 10, 172]
abbrev dktX2_refuses_0 : List UInt8 := dkwX2_refuses_0 ++ []
theorem dksX2_refuses_0 : cX2_refuses.data.toList.drop 0 = dktX2_refuses_0 := by decide +kernel
theorem dX2_refuses_0 : decode cX2_refuses 0 = .ok (.aload_n 0, 1) := dk_42 (dk_at dksX2_refuses_0 0 rfl rfl)
theorem dX2_refuses_1 : decode cX2_refuses 1 = .ok (.iload_n 1, 1) := dk_27 (dk_at dksX2_refuses_0 1 rfl rfl)
theorem dX2_refuses_2 : decode cX2_refuses 2 = .ok (.putfield 37, 3) := dk_181 0 37 (dk_at dksX2_refuses_0 2 rfl rfl)
theorem dX2_refuses_5 : decode cX2_refuses 5 = .ok (.aload_n 0, 1) := dk_42 (dk_at dksX2_refuses_0 5 rfl rfl)
theorem dX2_refuses_6 : decode cX2_refuses 6 = .ok (.iload_n 2, 1) := dk_28 (dk_at dksX2_refuses_0 6 rfl rfl)
theorem dX2_refuses_7 : decode cX2_refuses 7 = .ok (.putfield 41, 3) := dk_181 0 41 (dk_at dksX2_refuses_0 7 rfl rfl)
theorem dX2_refuses_10 : decode cX2_refuses 10 = .ok (.sipush (-1014), 3) := dk_17 252 10 (dk_at dksX2_refuses_0 10 rfl rfl)
theorem dX2_refuses_13 : decode cX2_refuses 13 = .ok (.ireturn, 1) := dk_172 (dk_at dksX2_refuses_0 13 rfl rfl)
abbrev cX2_keeps : ByteArray := prog_11_method_5_code
def yX2_keeps : MethodName := ⟨RX2, "keeps", "([I)V"⟩
def dkwX2_keeps_3 : List UInt8 := [180, 0, 48, 104, 184, 0, 51, 42, 89, 180, 0, 48, 4, 96, 181, 0, 48, 177]
abbrev dktX2_keeps_3 : List UInt8 := dkwX2_keeps_3 ++ []
def dkwX2_keeps_2 : List UInt8 := [167, 255, 230, 42, 89, 180, 0, 48, 4, 100, 181, 0, 48, 43, 3, 42, 180, 0, 13, 17, 0, 146, 42]
abbrev dktX2_keeps_2 : List UInt8 := dkwX2_keeps_2 ++ dktX2_keeps_3
def dkwX2_keeps_1 : List UInt8 := [162, 0, 25, 42, 180, 0, 13, 28, 42, 180, 0, 13, 28, 17, 0, 146, 96, 46, 79, 132, 2, 1]
abbrev dktX2_keeps_1 : List UInt8 := dkwX2_keeps_1 ++ dktX2_keeps_2
def dkwX2_keeps_0 : List UInt8 := [42, 180, 0, 44, 153, 0, 4, 177, 42, 180, 0, 48, 16, 8, 160, 0, 44, 3, 61, 28, 17, 3, 254]
abbrev dktX2_keeps_0 : List UInt8 := dkwX2_keeps_0 ++ dktX2_keeps_1
theorem dksX2_keeps_0 : cX2_keeps.data.toList.drop 0 = dktX2_keeps_0 := by decide +kernel
theorem dksX2_keeps_1 : cX2_keeps.data.toList.drop 23 = dktX2_keeps_1 := dk_seg dksX2_keeps_0 23 rfl rfl
theorem dksX2_keeps_2 : cX2_keeps.data.toList.drop 45 = dktX2_keeps_2 := dk_seg dksX2_keeps_1 22 rfl rfl
theorem dksX2_keeps_3 : cX2_keeps.data.toList.drop 68 = dktX2_keeps_3 := dk_seg dksX2_keeps_2 23 rfl rfl
theorem dX2_keeps_0 : decode cX2_keeps 0 = .ok (.aload_n 0, 1) := dk_42 (dk_at dksX2_keeps_0 0 rfl rfl)
theorem dX2_keeps_1 : decode cX2_keeps 1 = .ok (.getfield 44, 3) := dk_180 0 44 (dk_at dksX2_keeps_0 1 rfl rfl)
theorem dX2_keeps_4 : decode cX2_keeps 4 = .ok (.ifCond .eq 4, 3) := dk_153 0 4 (dk_at dksX2_keeps_0 4 rfl rfl)
theorem dX2_keeps_7 : decode cX2_keeps 7 = .ok (.return_, 1) := dk_177 (dk_at dksX2_keeps_0 7 rfl rfl)
theorem dX2_keeps_8 : decode cX2_keeps 8 = .ok (.aload_n 0, 1) := dk_42 (dk_at dksX2_keeps_0 8 rfl rfl)
theorem dX2_keeps_9 : decode cX2_keeps 9 = .ok (.getfield 48, 3) := dk_180 0 48 (dk_at dksX2_keeps_0 9 rfl rfl)
theorem dX2_keeps_12 : decode cX2_keeps 12 = .ok (.bipush 8, 2) := dk_16 8 (dk_at dksX2_keeps_0 12 rfl rfl)
theorem dX2_keeps_14 : decode cX2_keeps 14 = .ok (.if_icmp .ne 44, 3) := dk_160 0 44 (dk_at dksX2_keeps_0 14 rfl rfl)
theorem dX2_keeps_17 : decode cX2_keeps 17 = .ok (.iconst 0, 1) := dk_3 (dk_at dksX2_keeps_0 17 rfl rfl)
theorem dX2_keeps_18 : decode cX2_keeps 18 = .ok (.istore_n 2, 1) := dk_61 (dk_at dksX2_keeps_0 18 rfl rfl)
theorem dX2_keeps_19 : decode cX2_keeps 19 = .ok (.iload_n 2, 1) := dk_28 (dk_at dksX2_keeps_0 19 rfl rfl)
theorem dX2_keeps_20 : decode cX2_keeps 20 = .ok (.sipush 1022, 3) := dk_17 3 254 (dk_at dksX2_keeps_0 20 rfl rfl)
theorem dX2_keeps_23 : decode cX2_keeps 23 = .ok (.if_icmp .ge 25, 3) := dk_162 0 25 (dk_at dksX2_keeps_1 0 rfl rfl)
theorem dX2_keeps_26 : decode cX2_keeps 26 = .ok (.aload_n 0, 1) := dk_42 (dk_at dksX2_keeps_1 3 rfl rfl)
theorem dX2_keeps_27 : decode cX2_keeps 27 = .ok (.getfield 13, 3) := dk_180 0 13 (dk_at dksX2_keeps_1 4 rfl rfl)
theorem dX2_keeps_30 : decode cX2_keeps 30 = .ok (.iload_n 2, 1) := dk_28 (dk_at dksX2_keeps_1 7 rfl rfl)
theorem dX2_keeps_31 : decode cX2_keeps 31 = .ok (.aload_n 0, 1) := dk_42 (dk_at dksX2_keeps_1 8 rfl rfl)
theorem dX2_keeps_32 : decode cX2_keeps 32 = .ok (.getfield 13, 3) := dk_180 0 13 (dk_at dksX2_keeps_1 9 rfl rfl)
theorem dX2_keeps_35 : decode cX2_keeps 35 = .ok (.iload_n 2, 1) := dk_28 (dk_at dksX2_keeps_1 12 rfl rfl)
theorem dX2_keeps_36 : decode cX2_keeps 36 = .ok (.sipush 146, 3) := dk_17 0 146 (dk_at dksX2_keeps_1 13 rfl rfl)
theorem dX2_keeps_39 : decode cX2_keeps 39 = .ok (.iadd, 1) := dk_96 (dk_at dksX2_keeps_1 16 rfl rfl)
theorem dX2_keeps_40 : decode cX2_keeps 40 = .ok (.iaload, 1) := dk_46 (dk_at dksX2_keeps_1 17 rfl rfl)
theorem dX2_keeps_41 : decode cX2_keeps 41 = .ok (.iastore, 1) := dk_79 (dk_at dksX2_keeps_1 18 rfl rfl)
theorem dX2_keeps_42 : decode cX2_keeps 42 = .ok (.iinc 2 1, 3) := dk_132 2 1 (dk_at dksX2_keeps_1 19 rfl rfl)
theorem dX2_keeps_45 : decode cX2_keeps 45 = .ok (.goto (-26), 3) := dk_167 255 230 (dk_at dksX2_keeps_2 0 rfl rfl)
theorem dX2_keeps_48 : decode cX2_keeps 48 = .ok (.aload_n 0, 1) := dk_42 (dk_at dksX2_keeps_2 3 rfl rfl)
theorem dX2_keeps_49 : decode cX2_keeps 49 = .ok (.dup, 1) := dk_89 (dk_at dksX2_keeps_2 4 rfl rfl)
theorem dX2_keeps_50 : decode cX2_keeps 50 = .ok (.getfield 48, 3) := dk_180 0 48 (dk_at dksX2_keeps_2 5 rfl rfl)
theorem dX2_keeps_53 : decode cX2_keeps 53 = .ok (.iconst 1, 1) := dk_4 (dk_at dksX2_keeps_2 8 rfl rfl)
theorem dX2_keeps_54 : decode cX2_keeps 54 = .ok (.isub, 1) := dk_100 (dk_at dksX2_keeps_2 9 rfl rfl)
theorem dX2_keeps_55 : decode cX2_keeps 55 = .ok (.putfield 48, 3) := dk_181 0 48 (dk_at dksX2_keeps_2 10 rfl rfl)
theorem dX2_keeps_58 : decode cX2_keeps 58 = .ok (.aload_n 1, 1) := dk_43 (dk_at dksX2_keeps_2 13 rfl rfl)
theorem dX2_keeps_59 : decode cX2_keeps 59 = .ok (.iconst 0, 1) := dk_3 (dk_at dksX2_keeps_2 14 rfl rfl)
theorem dX2_keeps_60 : decode cX2_keeps 60 = .ok (.aload_n 0, 1) := dk_42 (dk_at dksX2_keeps_2 15 rfl rfl)
theorem dX2_keeps_61 : decode cX2_keeps 61 = .ok (.getfield 13, 3) := dk_180 0 13 (dk_at dksX2_keeps_2 16 rfl rfl)
theorem dX2_keeps_64 : decode cX2_keeps 64 = .ok (.sipush 146, 3) := dk_17 0 146 (dk_at dksX2_keeps_2 19 rfl rfl)
theorem dX2_keeps_67 : decode cX2_keeps 67 = .ok (.aload_n 0, 1) := dk_42 (dk_at dksX2_keeps_2 22 rfl rfl)
theorem dX2_keeps_68 : decode cX2_keeps 68 = .ok (.getfield 48, 3) := dk_180 0 48 (dk_at dksX2_keeps_3 0 rfl rfl)
theorem dX2_keeps_71 : decode cX2_keeps 71 = .ok (.imul, 1) := dk_104 (dk_at dksX2_keeps_3 3 rfl rfl)
theorem dX2_keeps_72 : decode cX2_keeps 72 = .ok (.invokestatic 51, 3) := dk_184 0 51 (dk_at dksX2_keeps_3 4 rfl rfl)
theorem dX2_keeps_75 : decode cX2_keeps 75 = .ok (.aload_n 0, 1) := dk_42 (dk_at dksX2_keeps_3 7 rfl rfl)
theorem dX2_keeps_76 : decode cX2_keeps 76 = .ok (.dup, 1) := dk_89 (dk_at dksX2_keeps_3 8 rfl rfl)
theorem dX2_keeps_77 : decode cX2_keeps 77 = .ok (.getfield 48, 3) := dk_180 0 48 (dk_at dksX2_keeps_3 9 rfl rfl)
theorem dX2_keeps_80 : decode cX2_keeps 80 = .ok (.iconst 1, 1) := dk_4 (dk_at dksX2_keeps_3 12 rfl rfl)
theorem dX2_keeps_81 : decode cX2_keeps 81 = .ok (.iadd, 1) := dk_96 (dk_at dksX2_keeps_3 13 rfl rfl)
theorem dX2_keeps_82 : decode cX2_keeps 82 = .ok (.putfield 48, 3) := dk_181 0 48 (dk_at dksX2_keeps_3 14 rfl rfl)
theorem dX2_keeps_85 : decode cX2_keeps 85 = .ok (.return_, 1) := dk_177 (dk_at dksX2_keeps_3 17 rfl rfl)
abbrev cX2_copies : ByteArray := prog_11_method_4_code
def yX2_copies : MethodName := ⟨RX2, "copies", "([II[II)V"⟩
def dkwX2_copies_1 : List UInt8 := [132, 4, 1, 167, 255, 233, 177]
abbrev dktX2_copies_1 : List UInt8 := dkwX2_copies_1 ++ []
def dkwX2_copies_0 : List UInt8 := [3, 54, 4, 21, 4, 17, 0, 146, 162, 0, 21, 44, 29, 21, 4, 96, 42, 27, 21, 4, 96, 46, 79]
abbrev dktX2_copies_0 : List UInt8 := dkwX2_copies_0 ++ dktX2_copies_1
theorem dksX2_copies_0 : cX2_copies.data.toList.drop 0 = dktX2_copies_0 := by decide +kernel
theorem dksX2_copies_1 : cX2_copies.data.toList.drop 23 = dktX2_copies_1 := dk_seg dksX2_copies_0 23 rfl rfl
theorem dX2_copies_0 : decode cX2_copies 0 = .ok (.iconst 0, 1) := dk_3 (dk_at dksX2_copies_0 0 rfl rfl)
theorem dX2_copies_1 : decode cX2_copies 1 = .ok (.istore 4, 2) := dk_54 4 (dk_at dksX2_copies_0 1 rfl rfl)
theorem dX2_copies_3 : decode cX2_copies 3 = .ok (.iload 4, 2) := dk_21 4 (dk_at dksX2_copies_0 3 rfl rfl)
theorem dX2_copies_5 : decode cX2_copies 5 = .ok (.sipush 146, 3) := dk_17 0 146 (dk_at dksX2_copies_0 5 rfl rfl)
theorem dX2_copies_8 : decode cX2_copies 8 = .ok (.if_icmp .ge 21, 3) := dk_162 0 21 (dk_at dksX2_copies_0 8 rfl rfl)
theorem dX2_copies_11 : decode cX2_copies 11 = .ok (.aload_n 2, 1) := dk_44 (dk_at dksX2_copies_0 11 rfl rfl)
theorem dX2_copies_12 : decode cX2_copies 12 = .ok (.iload_n 3, 1) := dk_29 (dk_at dksX2_copies_0 12 rfl rfl)
theorem dX2_copies_13 : decode cX2_copies 13 = .ok (.iload 4, 2) := dk_21 4 (dk_at dksX2_copies_0 13 rfl rfl)
theorem dX2_copies_15 : decode cX2_copies 15 = .ok (.iadd, 1) := dk_96 (dk_at dksX2_copies_0 15 rfl rfl)
theorem dX2_copies_16 : decode cX2_copies 16 = .ok (.aload_n 0, 1) := dk_42 (dk_at dksX2_copies_0 16 rfl rfl)
theorem dX2_copies_17 : decode cX2_copies 17 = .ok (.iload_n 1, 1) := dk_27 (dk_at dksX2_copies_0 17 rfl rfl)
theorem dX2_copies_18 : decode cX2_copies 18 = .ok (.iload 4, 2) := dk_21 4 (dk_at dksX2_copies_0 18 rfl rfl)
theorem dX2_copies_20 : decode cX2_copies 20 = .ok (.iadd, 1) := dk_96 (dk_at dksX2_copies_0 20 rfl rfl)
theorem dX2_copies_21 : decode cX2_copies 21 = .ok (.iaload, 1) := dk_46 (dk_at dksX2_copies_0 21 rfl rfl)
theorem dX2_copies_22 : decode cX2_copies 22 = .ok (.iastore, 1) := dk_79 (dk_at dksX2_copies_0 22 rfl rfl)
theorem dX2_copies_23 : decode cX2_copies 23 = .ok (.iinc 4 1, 3) := dk_132 4 1 (dk_at dksX2_copies_1 0 rfl rfl)
theorem dX2_copies_26 : decode cX2_copies 26 = .ok (.goto (-23), 3) := dk_167 255 233 (dk_at dksX2_copies_1 3 rfl rfl)
theorem dX2_copies_29 : decode cX2_copies 29 = .ok (.return_, 1) := dk_177 (dk_at dksX2_copies_1 6 rfl rfl)
abbrev cX2_door : ByteArray := prog_11_method_15_code
def yX2_door : MethodName := ⟨RX2, "door", "(IIII)I"⟩
def dkwX2_door_9 : List UInt8 := [46, 4, 100, 172]
abbrev dktX2_door_9 : List UInt8 := dkwX2_door_9 ++ []
def dkwX2_door_8 : List UInt8 := [180, 0, 7, 21, 5, 8, 96, 3, 79, 42, 180, 0, 7, 4, 92, 46, 4, 96, 79, 42, 180, 0, 7, 4]
abbrev dktX2_door_8 : List UInt8 := dkwX2_door_8 ++ dktX2_door_9
def dkwX2_door_7 : List UInt8 := [21, 4, 79, 42, 180, 0, 7, 21, 5, 7, 96, 21, 4, 156, 0, 7, 3, 167, 0, 4, 4, 79, 42]
abbrev dktX2_door_7 : List UInt8 := dkwX2_door_7 ++ dktX2_door_8
def dkwX2_door_6 : List UInt8 := [27, 28, 184, 0, 73, 79, 42, 180, 0, 7, 21, 5, 5, 96, 29, 79, 42, 180, 0, 7, 21, 5, 6, 96]
abbrev dktX2_door_6 : List UInt8 := dkwX2_door_6 ++ dktX2_door_7
def dkwX2_door_5 : List UInt8 := [54, 5, 42, 180, 0, 7, 21, 5, 3, 96, 27, 28, 184, 0, 70, 79, 42, 180, 0, 7, 21, 5, 4, 96]
abbrev dktX2_door_5 : List UInt8 := dkwX2_door_5 ++ dktX2_door_6
def dkwX2_door_4 : List UInt8 := [182, 0, 59, 172, 42, 42, 180, 0, 7, 182, 0, 63, 16, 50, 16, 6, 42, 180, 0, 7, 4, 46, 104, 96]
abbrev dktX2_door_4 : List UInt8 := dkwX2_door_4 ++ dktX2_door_5
def dkwX2_door_3 : List UInt8 := [182, 0, 80, 182, 0, 59, 172, 42, 180, 0, 7, 4, 46, 16, 16, 160, 0, 11, 42, 4, 16, 16]
abbrev dktX2_door_3 : List UInt8 := dkwX2_door_3 ++ dktX2_door_4
def dkwX2_door_2 : List UInt8 := [160, 0, 10, 42, 5, 27, 182, 0, 59, 172, 42, 27, 28, 182, 0, 80, 155, 0, 15, 42, 6, 42, 27, 28]
abbrev dktX2_door_2 : List UInt8 := dkwX2_door_2 ++ dktX2_door_3
def dkwX2_door_1 : List UInt8 := [184, 0, 55, 153, 0, 13, 21, 4, 2, 5, 184, 0, 55, 154, 0, 7, 17, 252, 12, 172, 27, 28]
abbrev dktX2_door_1 : List UInt8 := dkwX2_door_1 ++ dktX2_door_2
def dkwX2_door_0 : List UInt8 := [42, 27, 182, 0, 76, 153, 0, 11, 42, 28, 182, 0, 76, 154, 0, 7, 17, 252, 13, 172, 29, 3, 5]
abbrev dktX2_door_0 : List UInt8 := dkwX2_door_0 ++ dktX2_door_1
theorem dksX2_door_0 : cX2_door.data.toList.drop 0 = dktX2_door_0 := by decide +kernel
theorem dksX2_door_1 : cX2_door.data.toList.drop 23 = dktX2_door_1 := dk_seg dksX2_door_0 23 rfl rfl
theorem dksX2_door_2 : cX2_door.data.toList.drop 45 = dktX2_door_2 := dk_seg dksX2_door_1 22 rfl rfl
theorem dksX2_door_3 : cX2_door.data.toList.drop 69 = dktX2_door_3 := dk_seg dksX2_door_2 24 rfl rfl
theorem dksX2_door_4 : cX2_door.data.toList.drop 91 = dktX2_door_4 := dk_seg dksX2_door_3 22 rfl rfl
theorem dksX2_door_5 : cX2_door.data.toList.drop 115 = dktX2_door_5 := dk_seg dksX2_door_4 24 rfl rfl
theorem dksX2_door_6 : cX2_door.data.toList.drop 139 = dktX2_door_6 := dk_seg dksX2_door_5 24 rfl rfl
theorem dksX2_door_7 : cX2_door.data.toList.drop 163 = dktX2_door_7 := dk_seg dksX2_door_6 24 rfl rfl
theorem dksX2_door_8 : cX2_door.data.toList.drop 186 = dktX2_door_8 := dk_seg dksX2_door_7 23 rfl rfl
theorem dksX2_door_9 : cX2_door.data.toList.drop 210 = dktX2_door_9 := dk_seg dksX2_door_8 24 rfl rfl
theorem dX2_door_0 : decode cX2_door 0 = .ok (.aload_n 0, 1) := dk_42 (dk_at dksX2_door_0 0 rfl rfl)
theorem dX2_door_1 : decode cX2_door 1 = .ok (.iload_n 1, 1) := dk_27 (dk_at dksX2_door_0 1 rfl rfl)
theorem dX2_door_2 : decode cX2_door 2 = .ok (.invokevirtual 76, 3) := dk_182 0 76 (dk_at dksX2_door_0 2 rfl rfl)
theorem dX2_door_5 : decode cX2_door 5 = .ok (.ifCond .eq 11, 3) := dk_153 0 11 (dk_at dksX2_door_0 5 rfl rfl)
theorem dX2_door_8 : decode cX2_door 8 = .ok (.aload_n 0, 1) := dk_42 (dk_at dksX2_door_0 8 rfl rfl)
theorem dX2_door_9 : decode cX2_door 9 = .ok (.iload_n 2, 1) := dk_28 (dk_at dksX2_door_0 9 rfl rfl)
theorem dX2_door_10 : decode cX2_door 10 = .ok (.invokevirtual 76, 3) := dk_182 0 76 (dk_at dksX2_door_0 10 rfl rfl)
theorem dX2_door_13 : decode cX2_door 13 = .ok (.ifCond .ne 7, 3) := dk_154 0 7 (dk_at dksX2_door_0 13 rfl rfl)
theorem dX2_door_16 : decode cX2_door 16 = .ok (.sipush (-1011), 3) := dk_17 252 13 (dk_at dksX2_door_0 16 rfl rfl)
theorem dX2_door_19 : decode cX2_door 19 = .ok (.ireturn, 1) := dk_172 (dk_at dksX2_door_0 19 rfl rfl)
theorem dX2_door_20 : decode cX2_door 20 = .ok (.iload_n 3, 1) := dk_29 (dk_at dksX2_door_0 20 rfl rfl)
theorem dX2_door_21 : decode cX2_door 21 = .ok (.iconst 0, 1) := dk_3 (dk_at dksX2_door_0 21 rfl rfl)
theorem dX2_door_22 : decode cX2_door 22 = .ok (.iconst 2, 1) := dk_5 (dk_at dksX2_door_0 22 rfl rfl)
theorem dX2_door_23 : decode cX2_door 23 = .ok (.invokestatic 55, 3) := dk_184 0 55 (dk_at dksX2_door_1 0 rfl rfl)
theorem dX2_door_26 : decode cX2_door 26 = .ok (.ifCond .eq 13, 3) := dk_153 0 13 (dk_at dksX2_door_1 3 rfl rfl)
theorem dX2_door_29 : decode cX2_door 29 = .ok (.iload 4, 2) := dk_21 4 (dk_at dksX2_door_1 6 rfl rfl)
theorem dX2_door_31 : decode cX2_door 31 = .ok (.iconst (-1), 1) := dk_2 (dk_at dksX2_door_1 8 rfl rfl)
theorem dX2_door_32 : decode cX2_door 32 = .ok (.iconst 2, 1) := dk_5 (dk_at dksX2_door_1 9 rfl rfl)
theorem dX2_door_33 : decode cX2_door 33 = .ok (.invokestatic 55, 3) := dk_184 0 55 (dk_at dksX2_door_1 10 rfl rfl)
theorem dX2_door_36 : decode cX2_door 36 = .ok (.ifCond .ne 7, 3) := dk_154 0 7 (dk_at dksX2_door_1 13 rfl rfl)
theorem dX2_door_39 : decode cX2_door 39 = .ok (.sipush (-1012), 3) := dk_17 252 12 (dk_at dksX2_door_1 16 rfl rfl)
theorem dX2_door_42 : decode cX2_door 42 = .ok (.ireturn, 1) := dk_172 (dk_at dksX2_door_1 19 rfl rfl)
theorem dX2_door_43 : decode cX2_door 43 = .ok (.iload_n 1, 1) := dk_27 (dk_at dksX2_door_1 20 rfl rfl)
theorem dX2_door_44 : decode cX2_door 44 = .ok (.iload_n 2, 1) := dk_28 (dk_at dksX2_door_1 21 rfl rfl)
theorem dX2_door_45 : decode cX2_door 45 = .ok (.if_icmp .ne 10, 3) := dk_160 0 10 (dk_at dksX2_door_2 0 rfl rfl)
theorem dX2_door_48 : decode cX2_door 48 = .ok (.aload_n 0, 1) := dk_42 (dk_at dksX2_door_2 3 rfl rfl)
theorem dX2_door_49 : decode cX2_door 49 = .ok (.iconst 2, 1) := dk_5 (dk_at dksX2_door_2 4 rfl rfl)
theorem dX2_door_50 : decode cX2_door 50 = .ok (.iload_n 1, 1) := dk_27 (dk_at dksX2_door_2 5 rfl rfl)
theorem dX2_door_51 : decode cX2_door 51 = .ok (.invokevirtual 59, 3) := dk_182 0 59 (dk_at dksX2_door_2 6 rfl rfl)
theorem dX2_door_54 : decode cX2_door 54 = .ok (.ireturn, 1) := dk_172 (dk_at dksX2_door_2 9 rfl rfl)
theorem dX2_door_55 : decode cX2_door 55 = .ok (.aload_n 0, 1) := dk_42 (dk_at dksX2_door_2 10 rfl rfl)
theorem dX2_door_56 : decode cX2_door 56 = .ok (.iload_n 1, 1) := dk_27 (dk_at dksX2_door_2 11 rfl rfl)
theorem dX2_door_57 : decode cX2_door 57 = .ok (.iload_n 2, 1) := dk_28 (dk_at dksX2_door_2 12 rfl rfl)
theorem dX2_door_58 : decode cX2_door 58 = .ok (.invokevirtual 80, 3) := dk_182 0 80 (dk_at dksX2_door_2 13 rfl rfl)
theorem dX2_door_61 : decode cX2_door 61 = .ok (.ifCond .lt 15, 3) := dk_155 0 15 (dk_at dksX2_door_2 16 rfl rfl)
theorem dX2_door_64 : decode cX2_door 64 = .ok (.aload_n 0, 1) := dk_42 (dk_at dksX2_door_2 19 rfl rfl)
theorem dX2_door_65 : decode cX2_door 65 = .ok (.iconst 3, 1) := dk_6 (dk_at dksX2_door_2 20 rfl rfl)
theorem dX2_door_66 : decode cX2_door 66 = .ok (.aload_n 0, 1) := dk_42 (dk_at dksX2_door_2 21 rfl rfl)
theorem dX2_door_67 : decode cX2_door 67 = .ok (.iload_n 1, 1) := dk_27 (dk_at dksX2_door_2 22 rfl rfl)
theorem dX2_door_68 : decode cX2_door 68 = .ok (.iload_n 2, 1) := dk_28 (dk_at dksX2_door_2 23 rfl rfl)
theorem dX2_door_69 : decode cX2_door 69 = .ok (.invokevirtual 80, 3) := dk_182 0 80 (dk_at dksX2_door_3 0 rfl rfl)
theorem dX2_door_72 : decode cX2_door 72 = .ok (.invokevirtual 59, 3) := dk_182 0 59 (dk_at dksX2_door_3 3 rfl rfl)
theorem dX2_door_75 : decode cX2_door 75 = .ok (.ireturn, 1) := dk_172 (dk_at dksX2_door_3 6 rfl rfl)
theorem dX2_door_76 : decode cX2_door 76 = .ok (.aload_n 0, 1) := dk_42 (dk_at dksX2_door_3 7 rfl rfl)
theorem dX2_door_77 : decode cX2_door 77 = .ok (.getfield 7, 3) := dk_180 0 7 (dk_at dksX2_door_3 8 rfl rfl)
theorem dX2_door_80 : decode cX2_door 80 = .ok (.iconst 1, 1) := dk_4 (dk_at dksX2_door_3 11 rfl rfl)
theorem dX2_door_81 : decode cX2_door 81 = .ok (.iaload, 1) := dk_46 (dk_at dksX2_door_3 12 rfl rfl)
theorem dX2_door_82 : decode cX2_door 82 = .ok (.bipush 16, 2) := dk_16 16 (dk_at dksX2_door_3 13 rfl rfl)
theorem dX2_door_84 : decode cX2_door 84 = .ok (.if_icmp .ne 11, 3) := dk_160 0 11 (dk_at dksX2_door_3 15 rfl rfl)
theorem dX2_door_87 : decode cX2_door 87 = .ok (.aload_n 0, 1) := dk_42 (dk_at dksX2_door_3 18 rfl rfl)
theorem dX2_door_88 : decode cX2_door 88 = .ok (.iconst 1, 1) := dk_4 (dk_at dksX2_door_3 19 rfl rfl)
theorem dX2_door_89 : decode cX2_door 89 = .ok (.bipush 16, 2) := dk_16 16 (dk_at dksX2_door_3 20 rfl rfl)
theorem dX2_door_91 : decode cX2_door 91 = .ok (.invokevirtual 59, 3) := dk_182 0 59 (dk_at dksX2_door_4 0 rfl rfl)
theorem dX2_door_94 : decode cX2_door 94 = .ok (.ireturn, 1) := dk_172 (dk_at dksX2_door_4 3 rfl rfl)
theorem dX2_door_95 : decode cX2_door 95 = .ok (.aload_n 0, 1) := dk_42 (dk_at dksX2_door_4 4 rfl rfl)
theorem dX2_door_96 : decode cX2_door 96 = .ok (.aload_n 0, 1) := dk_42 (dk_at dksX2_door_4 5 rfl rfl)
theorem dX2_door_97 : decode cX2_door 97 = .ok (.getfield 7, 3) := dk_180 0 7 (dk_at dksX2_door_4 6 rfl rfl)
theorem dX2_door_100 : decode cX2_door 100 = .ok (.invokevirtual 63, 3) := dk_182 0 63 (dk_at dksX2_door_4 9 rfl rfl)
theorem dX2_door_103 : decode cX2_door 103 = .ok (.bipush 50, 2) := dk_16 50 (dk_at dksX2_door_4 12 rfl rfl)
theorem dX2_door_105 : decode cX2_door 105 = .ok (.bipush 6, 2) := dk_16 6 (dk_at dksX2_door_4 14 rfl rfl)
theorem dX2_door_107 : decode cX2_door 107 = .ok (.aload_n 0, 1) := dk_42 (dk_at dksX2_door_4 16 rfl rfl)
theorem dX2_door_108 : decode cX2_door 108 = .ok (.getfield 7, 3) := dk_180 0 7 (dk_at dksX2_door_4 17 rfl rfl)
theorem dX2_door_111 : decode cX2_door 111 = .ok (.iconst 1, 1) := dk_4 (dk_at dksX2_door_4 20 rfl rfl)
theorem dX2_door_112 : decode cX2_door 112 = .ok (.iaload, 1) := dk_46 (dk_at dksX2_door_4 21 rfl rfl)
theorem dX2_door_113 : decode cX2_door 113 = .ok (.imul, 1) := dk_104 (dk_at dksX2_door_4 22 rfl rfl)
theorem dX2_door_114 : decode cX2_door 114 = .ok (.iadd, 1) := dk_96 (dk_at dksX2_door_4 23 rfl rfl)
theorem dX2_door_115 : decode cX2_door 115 = .ok (.istore 5, 2) := dk_54 5 (dk_at dksX2_door_5 0 rfl rfl)
theorem dX2_door_117 : decode cX2_door 117 = .ok (.aload_n 0, 1) := dk_42 (dk_at dksX2_door_5 2 rfl rfl)
theorem dX2_door_118 : decode cX2_door 118 = .ok (.getfield 7, 3) := dk_180 0 7 (dk_at dksX2_door_5 3 rfl rfl)
theorem dX2_door_121 : decode cX2_door 121 = .ok (.iload 5, 2) := dk_21 5 (dk_at dksX2_door_5 6 rfl rfl)
theorem dX2_door_123 : decode cX2_door 123 = .ok (.iconst 0, 1) := dk_3 (dk_at dksX2_door_5 8 rfl rfl)
theorem dX2_door_124 : decode cX2_door 124 = .ok (.iadd, 1) := dk_96 (dk_at dksX2_door_5 9 rfl rfl)
theorem dX2_door_125 : decode cX2_door 125 = .ok (.iload_n 1, 1) := dk_27 (dk_at dksX2_door_5 10 rfl rfl)
theorem dX2_door_126 : decode cX2_door 126 = .ok (.iload_n 2, 1) := dk_28 (dk_at dksX2_door_5 11 rfl rfl)
theorem dX2_door_127 : decode cX2_door 127 = .ok (.invokestatic 70, 3) := dk_184 0 70 (dk_at dksX2_door_5 12 rfl rfl)
theorem dX2_door_130 : decode cX2_door 130 = .ok (.iastore, 1) := dk_79 (dk_at dksX2_door_5 15 rfl rfl)
theorem dX2_door_131 : decode cX2_door 131 = .ok (.aload_n 0, 1) := dk_42 (dk_at dksX2_door_5 16 rfl rfl)
theorem dX2_door_132 : decode cX2_door 132 = .ok (.getfield 7, 3) := dk_180 0 7 (dk_at dksX2_door_5 17 rfl rfl)
theorem dX2_door_135 : decode cX2_door 135 = .ok (.iload 5, 2) := dk_21 5 (dk_at dksX2_door_5 20 rfl rfl)
theorem dX2_door_137 : decode cX2_door 137 = .ok (.iconst 1, 1) := dk_4 (dk_at dksX2_door_5 22 rfl rfl)
theorem dX2_door_138 : decode cX2_door 138 = .ok (.iadd, 1) := dk_96 (dk_at dksX2_door_5 23 rfl rfl)
theorem dX2_door_139 : decode cX2_door 139 = .ok (.iload_n 1, 1) := dk_27 (dk_at dksX2_door_6 0 rfl rfl)
theorem dX2_door_140 : decode cX2_door 140 = .ok (.iload_n 2, 1) := dk_28 (dk_at dksX2_door_6 1 rfl rfl)
theorem dX2_door_141 : decode cX2_door 141 = .ok (.invokestatic 73, 3) := dk_184 0 73 (dk_at dksX2_door_6 2 rfl rfl)
theorem dX2_door_144 : decode cX2_door 144 = .ok (.iastore, 1) := dk_79 (dk_at dksX2_door_6 5 rfl rfl)
theorem dX2_door_145 : decode cX2_door 145 = .ok (.aload_n 0, 1) := dk_42 (dk_at dksX2_door_6 6 rfl rfl)
theorem dX2_door_146 : decode cX2_door 146 = .ok (.getfield 7, 3) := dk_180 0 7 (dk_at dksX2_door_6 7 rfl rfl)
theorem dX2_door_149 : decode cX2_door 149 = .ok (.iload 5, 2) := dk_21 5 (dk_at dksX2_door_6 10 rfl rfl)
theorem dX2_door_151 : decode cX2_door 151 = .ok (.iconst 2, 1) := dk_5 (dk_at dksX2_door_6 12 rfl rfl)
theorem dX2_door_152 : decode cX2_door 152 = .ok (.iadd, 1) := dk_96 (dk_at dksX2_door_6 13 rfl rfl)
theorem dX2_door_153 : decode cX2_door 153 = .ok (.iload_n 3, 1) := dk_29 (dk_at dksX2_door_6 14 rfl rfl)
theorem dX2_door_154 : decode cX2_door 154 = .ok (.iastore, 1) := dk_79 (dk_at dksX2_door_6 15 rfl rfl)
theorem dX2_door_155 : decode cX2_door 155 = .ok (.aload_n 0, 1) := dk_42 (dk_at dksX2_door_6 16 rfl rfl)
theorem dX2_door_156 : decode cX2_door 156 = .ok (.getfield 7, 3) := dk_180 0 7 (dk_at dksX2_door_6 17 rfl rfl)
theorem dX2_door_159 : decode cX2_door 159 = .ok (.iload 5, 2) := dk_21 5 (dk_at dksX2_door_6 20 rfl rfl)
theorem dX2_door_161 : decode cX2_door 161 = .ok (.iconst 3, 1) := dk_6 (dk_at dksX2_door_6 22 rfl rfl)
theorem dX2_door_162 : decode cX2_door 162 = .ok (.iadd, 1) := dk_96 (dk_at dksX2_door_6 23 rfl rfl)
theorem dX2_door_163 : decode cX2_door 163 = .ok (.iload 4, 2) := dk_21 4 (dk_at dksX2_door_7 0 rfl rfl)
theorem dX2_door_165 : decode cX2_door 165 = .ok (.iastore, 1) := dk_79 (dk_at dksX2_door_7 2 rfl rfl)
theorem dX2_door_166 : decode cX2_door 166 = .ok (.aload_n 0, 1) := dk_42 (dk_at dksX2_door_7 3 rfl rfl)
theorem dX2_door_167 : decode cX2_door 167 = .ok (.getfield 7, 3) := dk_180 0 7 (dk_at dksX2_door_7 4 rfl rfl)
theorem dX2_door_170 : decode cX2_door 170 = .ok (.iload 5, 2) := dk_21 5 (dk_at dksX2_door_7 7 rfl rfl)
theorem dX2_door_172 : decode cX2_door 172 = .ok (.iconst 4, 1) := dk_7 (dk_at dksX2_door_7 9 rfl rfl)
theorem dX2_door_173 : decode cX2_door 173 = .ok (.iadd, 1) := dk_96 (dk_at dksX2_door_7 10 rfl rfl)
theorem dX2_door_174 : decode cX2_door 174 = .ok (.iload 4, 2) := dk_21 4 (dk_at dksX2_door_7 11 rfl rfl)
theorem dX2_door_176 : decode cX2_door 176 = .ok (.ifCond .ge 7, 3) := dk_156 0 7 (dk_at dksX2_door_7 13 rfl rfl)
theorem dX2_door_179 : decode cX2_door 179 = .ok (.iconst 0, 1) := dk_3 (dk_at dksX2_door_7 16 rfl rfl)
theorem dX2_door_180 : decode cX2_door 180 = .ok (.goto 4, 3) := dk_167 0 4 (dk_at dksX2_door_7 17 rfl rfl)
theorem dX2_door_183 : decode cX2_door 183 = .ok (.iconst 1, 1) := dk_4 (dk_at dksX2_door_7 20 rfl rfl)
theorem dX2_door_184 : decode cX2_door 184 = .ok (.iastore, 1) := dk_79 (dk_at dksX2_door_7 21 rfl rfl)
theorem dX2_door_185 : decode cX2_door 185 = .ok (.aload_n 0, 1) := dk_42 (dk_at dksX2_door_7 22 rfl rfl)
theorem dX2_door_186 : decode cX2_door 186 = .ok (.getfield 7, 3) := dk_180 0 7 (dk_at dksX2_door_8 0 rfl rfl)
theorem dX2_door_189 : decode cX2_door 189 = .ok (.iload 5, 2) := dk_21 5 (dk_at dksX2_door_8 3 rfl rfl)
theorem dX2_door_191 : decode cX2_door 191 = .ok (.iconst 5, 1) := dk_8 (dk_at dksX2_door_8 5 rfl rfl)
theorem dX2_door_192 : decode cX2_door 192 = .ok (.iadd, 1) := dk_96 (dk_at dksX2_door_8 6 rfl rfl)
theorem dX2_door_193 : decode cX2_door 193 = .ok (.iconst 0, 1) := dk_3 (dk_at dksX2_door_8 7 rfl rfl)
theorem dX2_door_194 : decode cX2_door 194 = .ok (.iastore, 1) := dk_79 (dk_at dksX2_door_8 8 rfl rfl)
theorem dX2_door_195 : decode cX2_door 195 = .ok (.aload_n 0, 1) := dk_42 (dk_at dksX2_door_8 9 rfl rfl)
theorem dX2_door_196 : decode cX2_door 196 = .ok (.getfield 7, 3) := dk_180 0 7 (dk_at dksX2_door_8 10 rfl rfl)
theorem dX2_door_199 : decode cX2_door 199 = .ok (.iconst 1, 1) := dk_4 (dk_at dksX2_door_8 13 rfl rfl)
theorem dX2_door_200 : decode cX2_door 200 = .ok (.dup2, 1) := dk_92 (dk_at dksX2_door_8 14 rfl rfl)
theorem dX2_door_201 : decode cX2_door 201 = .ok (.iaload, 1) := dk_46 (dk_at dksX2_door_8 15 rfl rfl)
theorem dX2_door_202 : decode cX2_door 202 = .ok (.iconst 1, 1) := dk_4 (dk_at dksX2_door_8 16 rfl rfl)
theorem dX2_door_203 : decode cX2_door 203 = .ok (.iadd, 1) := dk_96 (dk_at dksX2_door_8 17 rfl rfl)
theorem dX2_door_204 : decode cX2_door 204 = .ok (.iastore, 1) := dk_79 (dk_at dksX2_door_8 18 rfl rfl)
theorem dX2_door_205 : decode cX2_door 205 = .ok (.aload_n 0, 1) := dk_42 (dk_at dksX2_door_8 19 rfl rfl)
theorem dX2_door_206 : decode cX2_door 206 = .ok (.getfield 7, 3) := dk_180 0 7 (dk_at dksX2_door_8 20 rfl rfl)
theorem dX2_door_209 : decode cX2_door 209 = .ok (.iconst 1, 1) := dk_4 (dk_at dksX2_door_8 23 rfl rfl)
theorem dX2_door_210 : decode cX2_door 210 = .ok (.iaload, 1) := dk_46 (dk_at dksX2_door_9 0 rfl rfl)
theorem dX2_door_211 : decode cX2_door 211 = .ok (.iconst 1, 1) := dk_4 (dk_at dksX2_door_9 1 rfl rfl)
theorem dX2_door_212 : decode cX2_door 212 = .ok (.isub, 1) := dk_100 (dk_at dksX2_door_9 2 rfl rfl)
theorem dX2_door_213 : decode cX2_door 213 = .ok (.ireturn, 1) := dk_172 (dk_at dksX2_door_9 3 rfl rfl)
abbrev cX2_isRoom : ByteArray := prog_11_method_6_code
def yX2_isRoom : MethodName := ⟨RX2, "isRoom", "(I)Z"⟩
def dkwX2_isRoom_0 : List UInt8 := [27, 3, 42, 180, 0, 7, 3, 46, 4, 100, 184, 0, 55, 172]
abbrev dktX2_isRoom_0 : List UInt8 := dkwX2_isRoom_0 ++ []
theorem dksX2_isRoom_0 : cX2_isRoom.data.toList.drop 0 = dktX2_isRoom_0 := by decide +kernel
theorem dX2_isRoom_0 : decode cX2_isRoom 0 = .ok (.iload_n 1, 1) := dk_27 (dk_at dksX2_isRoom_0 0 rfl rfl)
theorem dX2_isRoom_1 : decode cX2_isRoom 1 = .ok (.iconst 0, 1) := dk_3 (dk_at dksX2_isRoom_0 1 rfl rfl)
theorem dX2_isRoom_2 : decode cX2_isRoom 2 = .ok (.aload_n 0, 1) := dk_42 (dk_at dksX2_isRoom_0 2 rfl rfl)
theorem dX2_isRoom_3 : decode cX2_isRoom 3 = .ok (.getfield 7, 3) := dk_180 0 7 (dk_at dksX2_isRoom_0 3 rfl rfl)
theorem dX2_isRoom_6 : decode cX2_isRoom 6 = .ok (.iconst 0, 1) := dk_3 (dk_at dksX2_isRoom_0 6 rfl rfl)
theorem dX2_isRoom_7 : decode cX2_isRoom 7 = .ok (.iaload, 1) := dk_46 (dk_at dksX2_isRoom_0 7 rfl rfl)
theorem dX2_isRoom_8 : decode cX2_isRoom 8 = .ok (.iconst 1, 1) := dk_4 (dk_at dksX2_isRoom_0 8 rfl rfl)
theorem dX2_isRoom_9 : decode cX2_isRoom 9 = .ok (.isub, 1) := dk_100 (dk_at dksX2_isRoom_0 9 rfl rfl)
theorem dX2_isRoom_10 : decode cX2_isRoom 10 = .ok (.invokestatic 55, 3) := dk_184 0 55 (dk_at dksX2_isRoom_0 10 rfl rfl)
theorem dX2_isRoom_13 : decode cX2_isRoom 13 = .ok (.ireturn, 1) := dk_172 (dk_at dksX2_isRoom_0 13 rfl rfl)
abbrev cX2_between : ByteArray := prog_11_method_14_code
def yX2_between : MethodName := ⟨RX2, "between", "(II)I"⟩
def dkwX2_between_2 : List UInt8 := [167, 255, 213, 2, 172]
abbrev dktX2_between_2 : List UInt8 := dkwX2_between_2 ++ []
def dkwX2_between_1 : List UInt8 := [160, 0, 19, 42, 29, 4, 182, 0, 67, 27, 28, 184, 0, 73, 160, 0, 5, 29, 172, 132, 3, 1]
abbrev dktX2_between_1 : List UInt8 := dkwX2_between_1 ++ dktX2_between_2
def dkwX2_between_0 : List UInt8 := [3, 62, 29, 42, 180, 0, 7, 4, 46, 162, 0, 39, 42, 29, 3, 182, 0, 67, 27, 28, 184, 0, 70]
abbrev dktX2_between_0 : List UInt8 := dkwX2_between_0 ++ dktX2_between_1
theorem dksX2_between_0 : cX2_between.data.toList.drop 0 = dktX2_between_0 := by decide +kernel
theorem dksX2_between_1 : cX2_between.data.toList.drop 23 = dktX2_between_1 := dk_seg dksX2_between_0 23 rfl rfl
theorem dksX2_between_2 : cX2_between.data.toList.drop 45 = dktX2_between_2 := dk_seg dksX2_between_1 22 rfl rfl
theorem dX2_between_0 : decode cX2_between 0 = .ok (.iconst 0, 1) := dk_3 (dk_at dksX2_between_0 0 rfl rfl)
theorem dX2_between_1 : decode cX2_between 1 = .ok (.istore_n 3, 1) := dk_62 (dk_at dksX2_between_0 1 rfl rfl)
theorem dX2_between_2 : decode cX2_between 2 = .ok (.iload_n 3, 1) := dk_29 (dk_at dksX2_between_0 2 rfl rfl)
theorem dX2_between_3 : decode cX2_between 3 = .ok (.aload_n 0, 1) := dk_42 (dk_at dksX2_between_0 3 rfl rfl)
theorem dX2_between_4 : decode cX2_between 4 = .ok (.getfield 7, 3) := dk_180 0 7 (dk_at dksX2_between_0 4 rfl rfl)
theorem dX2_between_7 : decode cX2_between 7 = .ok (.iconst 1, 1) := dk_4 (dk_at dksX2_between_0 7 rfl rfl)
theorem dX2_between_8 : decode cX2_between 8 = .ok (.iaload, 1) := dk_46 (dk_at dksX2_between_0 8 rfl rfl)
theorem dX2_between_9 : decode cX2_between 9 = .ok (.if_icmp .ge 39, 3) := dk_162 0 39 (dk_at dksX2_between_0 9 rfl rfl)
theorem dX2_between_12 : decode cX2_between 12 = .ok (.aload_n 0, 1) := dk_42 (dk_at dksX2_between_0 12 rfl rfl)
theorem dX2_between_13 : decode cX2_between 13 = .ok (.iload_n 3, 1) := dk_29 (dk_at dksX2_between_0 13 rfl rfl)
theorem dX2_between_14 : decode cX2_between 14 = .ok (.iconst 0, 1) := dk_3 (dk_at dksX2_between_0 14 rfl rfl)
theorem dX2_between_15 : decode cX2_between 15 = .ok (.invokevirtual 67, 3) := dk_182 0 67 (dk_at dksX2_between_0 15 rfl rfl)
theorem dX2_between_18 : decode cX2_between 18 = .ok (.iload_n 1, 1) := dk_27 (dk_at dksX2_between_0 18 rfl rfl)
theorem dX2_between_19 : decode cX2_between 19 = .ok (.iload_n 2, 1) := dk_28 (dk_at dksX2_between_0 19 rfl rfl)
theorem dX2_between_20 : decode cX2_between 20 = .ok (.invokestatic 70, 3) := dk_184 0 70 (dk_at dksX2_between_0 20 rfl rfl)
theorem dX2_between_23 : decode cX2_between 23 = .ok (.if_icmp .ne 19, 3) := dk_160 0 19 (dk_at dksX2_between_1 0 rfl rfl)
theorem dX2_between_26 : decode cX2_between 26 = .ok (.aload_n 0, 1) := dk_42 (dk_at dksX2_between_1 3 rfl rfl)
theorem dX2_between_27 : decode cX2_between 27 = .ok (.iload_n 3, 1) := dk_29 (dk_at dksX2_between_1 4 rfl rfl)
theorem dX2_between_28 : decode cX2_between 28 = .ok (.iconst 1, 1) := dk_4 (dk_at dksX2_between_1 5 rfl rfl)
theorem dX2_between_29 : decode cX2_between 29 = .ok (.invokevirtual 67, 3) := dk_182 0 67 (dk_at dksX2_between_1 6 rfl rfl)
theorem dX2_between_32 : decode cX2_between 32 = .ok (.iload_n 1, 1) := dk_27 (dk_at dksX2_between_1 9 rfl rfl)
theorem dX2_between_33 : decode cX2_between 33 = .ok (.iload_n 2, 1) := dk_28 (dk_at dksX2_between_1 10 rfl rfl)
theorem dX2_between_34 : decode cX2_between 34 = .ok (.invokestatic 73, 3) := dk_184 0 73 (dk_at dksX2_between_1 11 rfl rfl)
theorem dX2_between_37 : decode cX2_between 37 = .ok (.if_icmp .ne 5, 3) := dk_160 0 5 (dk_at dksX2_between_1 14 rfl rfl)
theorem dX2_between_40 : decode cX2_between 40 = .ok (.iload_n 3, 1) := dk_29 (dk_at dksX2_between_1 17 rfl rfl)
theorem dX2_between_41 : decode cX2_between 41 = .ok (.ireturn, 1) := dk_172 (dk_at dksX2_between_1 18 rfl rfl)
theorem dX2_between_42 : decode cX2_between 42 = .ok (.iinc 3 1, 3) := dk_132 3 1 (dk_at dksX2_between_1 19 rfl rfl)
theorem dX2_between_45 : decode cX2_between 45 = .ok (.goto (-43), 3) := dk_167 255 213 (dk_at dksX2_between_2 0 rfl rfl)
theorem dX2_between_48 : decode cX2_between 48 = .ok (.iconst (-1), 1) := dk_2 (dk_at dksX2_between_2 3 rfl rfl)
theorem dX2_between_49 : decode cX2_between 49 = .ok (.ireturn, 1) := dk_172 (dk_at dksX2_between_2 4 rfl rfl)
abbrev cX2_of : ByteArray := prog_11_method_10_code
def yX2_of : MethodName := ⟨RX2, "of", "(II)I"⟩
def dkwX2_of_0 : List UInt8 := [42, 180, 0, 7, 16, 50, 16, 6, 27, 104, 96, 28, 96, 46, 172]
abbrev dktX2_of_0 : List UInt8 := dkwX2_of_0 ++ []
theorem dksX2_of_0 : cX2_of.data.toList.drop 0 = dktX2_of_0 := by decide +kernel
theorem dX2_of_0 : decode cX2_of 0 = .ok (.aload_n 0, 1) := dk_42 (dk_at dksX2_of_0 0 rfl rfl)
theorem dX2_of_1 : decode cX2_of 1 = .ok (.getfield 7, 3) := dk_180 0 7 (dk_at dksX2_of_0 1 rfl rfl)
theorem dX2_of_4 : decode cX2_of 4 = .ok (.bipush 50, 2) := dk_16 50 (dk_at dksX2_of_0 4 rfl rfl)
theorem dX2_of_6 : decode cX2_of 6 = .ok (.bipush 6, 2) := dk_16 6 (dk_at dksX2_of_0 6 rfl rfl)
theorem dX2_of_8 : decode cX2_of 8 = .ok (.iload_n 1, 1) := dk_27 (dk_at dksX2_of_0 8 rfl rfl)
theorem dX2_of_9 : decode cX2_of 9 = .ok (.imul, 1) := dk_104 (dk_at dksX2_of_0 9 rfl rfl)
theorem dX2_of_10 : decode cX2_of 10 = .ok (.iadd, 1) := dk_96 (dk_at dksX2_of_0 10 rfl rfl)
theorem dX2_of_11 : decode cX2_of 11 = .ok (.iload_n 2, 1) := dk_28 (dk_at dksX2_of_0 11 rfl rfl)
theorem dX2_of_12 : decode cX2_of 12 = .ok (.iadd, 1) := dk_96 (dk_at dksX2_of_0 12 rfl rfl)
theorem dX2_of_13 : decode cX2_of 13 = .ok (.iaload, 1) := dk_46 (dk_at dksX2_of_0 13 rfl rfl)
theorem dX2_of_14 : decode cX2_of 14 = .ok (.ireturn, 1) := dk_172 (dk_at dksX2_of_0 14 rfl rfl)
abbrev cX2_least : ByteArray := prog_11_method_12_code
def yX2_least : MethodName := ⟨RX2, "least", "(II)I"⟩
def dkwX2_least_0 : List UInt8 := [26, 27, 162, 0, 7, 26, 167, 0, 4, 27, 172]
abbrev dktX2_least_0 : List UInt8 := dkwX2_least_0 ++ []
theorem dksX2_least_0 : cX2_least.data.toList.drop 0 = dktX2_least_0 := by decide +kernel
theorem dX2_least_0 : decode cX2_least 0 = .ok (.iload_n 0, 1) := dk_26 (dk_at dksX2_least_0 0 rfl rfl)
theorem dX2_least_1 : decode cX2_least 1 = .ok (.iload_n 1, 1) := dk_27 (dk_at dksX2_least_0 1 rfl rfl)
theorem dX2_least_2 : decode cX2_least 2 = .ok (.if_icmp .ge 7, 3) := dk_162 0 7 (dk_at dksX2_least_0 2 rfl rfl)
theorem dX2_least_5 : decode cX2_least 5 = .ok (.iload_n 0, 1) := dk_26 (dk_at dksX2_least_0 5 rfl rfl)
theorem dX2_least_6 : decode cX2_least 6 = .ok (.goto 4, 3) := dk_167 0 4 (dk_at dksX2_least_0 6 rfl rfl)
theorem dX2_least_9 : decode cX2_least 9 = .ok (.iload_n 1, 1) := dk_27 (dk_at dksX2_least_0 9 rfl rfl)
theorem dX2_least_10 : decode cX2_least 10 = .ok (.ireturn, 1) := dk_172 (dk_at dksX2_least_0 10 rfl rfl)
abbrev cX2_most : ByteArray := prog_11_method_13_code
def yX2_most : MethodName := ⟨RX2, "most", "(II)I"⟩
def dkwX2_most_0 : List UInt8 := [26, 27, 164, 0, 7, 26, 167, 0, 4, 27, 172]
abbrev dktX2_most_0 : List UInt8 := dkwX2_most_0 ++ []
theorem dksX2_most_0 : cX2_most.data.toList.drop 0 = dktX2_most_0 := by decide +kernel
theorem dX2_most_0 : decode cX2_most 0 = .ok (.iload_n 0, 1) := dk_26 (dk_at dksX2_most_0 0 rfl rfl)
theorem dX2_most_1 : decode cX2_most 1 = .ok (.iload_n 1, 1) := dk_27 (dk_at dksX2_most_0 1 rfl rfl)
theorem dX2_most_2 : decode cX2_most 2 = .ok (.if_icmp .le 7, 3) := dk_164 0 7 (dk_at dksX2_most_0 2 rfl rfl)
theorem dX2_most_5 : decode cX2_most 5 = .ok (.iload_n 0, 1) := dk_26 (dk_at dksX2_most_0 5 rfl rfl)
theorem dX2_most_6 : decode cX2_most 6 = .ok (.goto 4, 3) := dk_167 0 4 (dk_at dksX2_most_0 6 rfl rfl)
theorem dX2_most_9 : decode cX2_most 9 = .ok (.iload_n 1, 1) := dk_27 (dk_at dksX2_most_0 9 rfl rfl)
theorem dX2_most_10 : decode cX2_most 10 = .ok (.ireturn, 1) := dk_172 (dk_at dksX2_most_0 10 rfl rfl)
abbrev cX2_key : ByteArray := prog_11_method_16_code
def yX2_key : MethodName := ⟨RX2, "key", "(II)I"⟩
def dkwX2_key_3 : List UInt8 := [96, 79, 42, 180, 0, 7, 16, 7, 92, 46, 4, 96, 79, 42, 180, 0, 7, 29, 46, 172]
abbrev dktX2_key_3 : List UInt8 := dkwX2_key_3 ++ []
def dkwX2_key_2 : List UInt8 := [16, 10, 16, 10, 182, 0, 59, 172, 42, 42, 180, 0, 7, 182, 0, 63, 42, 180, 0, 7, 29, 92, 46, 4]
abbrev dktX2_key_2 : List UInt8 := dkwX2_key_2 ++ dktX2_key_3
def dkwX2_key_1 : List UInt8 := [16, 10, 7, 27, 104, 96, 4, 96, 28, 96, 62, 42, 180, 0, 7, 29, 46, 16, 9, 160, 0, 12, 42]
abbrev dktX2_key_1 : List UInt8 := dkwX2_key_1 ++ dktX2_key_2
def dkwX2_key_0 : List UInt8 := [42, 27, 182, 0, 76, 154, 0, 7, 17, 252, 13, 172, 28, 184, 0, 83, 154, 0, 7, 17, 252, 12, 172]
abbrev dktX2_key_0 : List UInt8 := dkwX2_key_0 ++ dktX2_key_1
theorem dksX2_key_0 : cX2_key.data.toList.drop 0 = dktX2_key_0 := by decide +kernel
theorem dksX2_key_1 : cX2_key.data.toList.drop 23 = dktX2_key_1 := dk_seg dksX2_key_0 23 rfl rfl
theorem dksX2_key_2 : cX2_key.data.toList.drop 46 = dktX2_key_2 := dk_seg dksX2_key_1 23 rfl rfl
theorem dksX2_key_3 : cX2_key.data.toList.drop 70 = dktX2_key_3 := dk_seg dksX2_key_2 24 rfl rfl
theorem dX2_key_0 : decode cX2_key 0 = .ok (.aload_n 0, 1) := dk_42 (dk_at dksX2_key_0 0 rfl rfl)
theorem dX2_key_1 : decode cX2_key 1 = .ok (.iload_n 1, 1) := dk_27 (dk_at dksX2_key_0 1 rfl rfl)
theorem dX2_key_2 : decode cX2_key 2 = .ok (.invokevirtual 76, 3) := dk_182 0 76 (dk_at dksX2_key_0 2 rfl rfl)
theorem dX2_key_5 : decode cX2_key 5 = .ok (.ifCond .ne 7, 3) := dk_154 0 7 (dk_at dksX2_key_0 5 rfl rfl)
theorem dX2_key_8 : decode cX2_key 8 = .ok (.sipush (-1011), 3) := dk_17 252 13 (dk_at dksX2_key_0 8 rfl rfl)
theorem dX2_key_11 : decode cX2_key 11 = .ok (.ireturn, 1) := dk_172 (dk_at dksX2_key_0 11 rfl rfl)
theorem dX2_key_12 : decode cX2_key 12 = .ok (.iload_n 2, 1) := dk_28 (dk_at dksX2_key_0 12 rfl rfl)
theorem dX2_key_13 : decode cX2_key 13 = .ok (.invokestatic 83, 3) := dk_184 0 83 (dk_at dksX2_key_0 13 rfl rfl)
theorem dX2_key_16 : decode cX2_key 16 = .ok (.ifCond .ne 7, 3) := dk_154 0 7 (dk_at dksX2_key_0 16 rfl rfl)
theorem dX2_key_19 : decode cX2_key 19 = .ok (.sipush (-1012), 3) := dk_17 252 12 (dk_at dksX2_key_0 19 rfl rfl)
theorem dX2_key_22 : decode cX2_key 22 = .ok (.ireturn, 1) := dk_172 (dk_at dksX2_key_0 22 rfl rfl)
theorem dX2_key_23 : decode cX2_key 23 = .ok (.bipush 10, 2) := dk_16 10 (dk_at dksX2_key_1 0 rfl rfl)
theorem dX2_key_25 : decode cX2_key 25 = .ok (.iconst 4, 1) := dk_7 (dk_at dksX2_key_1 2 rfl rfl)
theorem dX2_key_26 : decode cX2_key 26 = .ok (.iload_n 1, 1) := dk_27 (dk_at dksX2_key_1 3 rfl rfl)
theorem dX2_key_27 : decode cX2_key 27 = .ok (.imul, 1) := dk_104 (dk_at dksX2_key_1 4 rfl rfl)
theorem dX2_key_28 : decode cX2_key 28 = .ok (.iadd, 1) := dk_96 (dk_at dksX2_key_1 5 rfl rfl)
theorem dX2_key_29 : decode cX2_key 29 = .ok (.iconst 1, 1) := dk_4 (dk_at dksX2_key_1 6 rfl rfl)
theorem dX2_key_30 : decode cX2_key 30 = .ok (.iadd, 1) := dk_96 (dk_at dksX2_key_1 7 rfl rfl)
theorem dX2_key_31 : decode cX2_key 31 = .ok (.iload_n 2, 1) := dk_28 (dk_at dksX2_key_1 8 rfl rfl)
theorem dX2_key_32 : decode cX2_key 32 = .ok (.iadd, 1) := dk_96 (dk_at dksX2_key_1 9 rfl rfl)
theorem dX2_key_33 : decode cX2_key 33 = .ok (.istore_n 3, 1) := dk_62 (dk_at dksX2_key_1 10 rfl rfl)
theorem dX2_key_34 : decode cX2_key 34 = .ok (.aload_n 0, 1) := dk_42 (dk_at dksX2_key_1 11 rfl rfl)
theorem dX2_key_35 : decode cX2_key 35 = .ok (.getfield 7, 3) := dk_180 0 7 (dk_at dksX2_key_1 12 rfl rfl)
theorem dX2_key_38 : decode cX2_key 38 = .ok (.iload_n 3, 1) := dk_29 (dk_at dksX2_key_1 15 rfl rfl)
theorem dX2_key_39 : decode cX2_key 39 = .ok (.iaload, 1) := dk_46 (dk_at dksX2_key_1 16 rfl rfl)
theorem dX2_key_40 : decode cX2_key 40 = .ok (.bipush 9, 2) := dk_16 9 (dk_at dksX2_key_1 17 rfl rfl)
theorem dX2_key_42 : decode cX2_key 42 = .ok (.if_icmp .ne 12, 3) := dk_160 0 12 (dk_at dksX2_key_1 19 rfl rfl)
theorem dX2_key_45 : decode cX2_key 45 = .ok (.aload_n 0, 1) := dk_42 (dk_at dksX2_key_1 22 rfl rfl)
theorem dX2_key_46 : decode cX2_key 46 = .ok (.bipush 10, 2) := dk_16 10 (dk_at dksX2_key_2 0 rfl rfl)
theorem dX2_key_48 : decode cX2_key 48 = .ok (.bipush 10, 2) := dk_16 10 (dk_at dksX2_key_2 2 rfl rfl)
theorem dX2_key_50 : decode cX2_key 50 = .ok (.invokevirtual 59, 3) := dk_182 0 59 (dk_at dksX2_key_2 4 rfl rfl)
theorem dX2_key_53 : decode cX2_key 53 = .ok (.ireturn, 1) := dk_172 (dk_at dksX2_key_2 7 rfl rfl)
theorem dX2_key_54 : decode cX2_key 54 = .ok (.aload_n 0, 1) := dk_42 (dk_at dksX2_key_2 8 rfl rfl)
theorem dX2_key_55 : decode cX2_key 55 = .ok (.aload_n 0, 1) := dk_42 (dk_at dksX2_key_2 9 rfl rfl)
theorem dX2_key_56 : decode cX2_key 56 = .ok (.getfield 7, 3) := dk_180 0 7 (dk_at dksX2_key_2 10 rfl rfl)
theorem dX2_key_59 : decode cX2_key 59 = .ok (.invokevirtual 63, 3) := dk_182 0 63 (dk_at dksX2_key_2 13 rfl rfl)
theorem dX2_key_62 : decode cX2_key 62 = .ok (.aload_n 0, 1) := dk_42 (dk_at dksX2_key_2 16 rfl rfl)
theorem dX2_key_63 : decode cX2_key 63 = .ok (.getfield 7, 3) := dk_180 0 7 (dk_at dksX2_key_2 17 rfl rfl)
theorem dX2_key_66 : decode cX2_key 66 = .ok (.iload_n 3, 1) := dk_29 (dk_at dksX2_key_2 20 rfl rfl)
theorem dX2_key_67 : decode cX2_key 67 = .ok (.dup2, 1) := dk_92 (dk_at dksX2_key_2 21 rfl rfl)
theorem dX2_key_68 : decode cX2_key 68 = .ok (.iaload, 1) := dk_46 (dk_at dksX2_key_2 22 rfl rfl)
theorem dX2_key_69 : decode cX2_key 69 = .ok (.iconst 1, 1) := dk_4 (dk_at dksX2_key_2 23 rfl rfl)
theorem dX2_key_70 : decode cX2_key 70 = .ok (.iadd, 1) := dk_96 (dk_at dksX2_key_3 0 rfl rfl)
theorem dX2_key_71 : decode cX2_key 71 = .ok (.iastore, 1) := dk_79 (dk_at dksX2_key_3 1 rfl rfl)
theorem dX2_key_72 : decode cX2_key 72 = .ok (.aload_n 0, 1) := dk_42 (dk_at dksX2_key_3 2 rfl rfl)
theorem dX2_key_73 : decode cX2_key 73 = .ok (.getfield 7, 3) := dk_180 0 7 (dk_at dksX2_key_3 3 rfl rfl)
theorem dX2_key_76 : decode cX2_key 76 = .ok (.bipush 7, 2) := dk_16 7 (dk_at dksX2_key_3 6 rfl rfl)
theorem dX2_key_78 : decode cX2_key 78 = .ok (.dup2, 1) := dk_92 (dk_at dksX2_key_3 8 rfl rfl)
theorem dX2_key_79 : decode cX2_key 79 = .ok (.iaload, 1) := dk_46 (dk_at dksX2_key_3 9 rfl rfl)
theorem dX2_key_80 : decode cX2_key 80 = .ok (.iconst 1, 1) := dk_4 (dk_at dksX2_key_3 10 rfl rfl)
theorem dX2_key_81 : decode cX2_key 81 = .ok (.iadd, 1) := dk_96 (dk_at dksX2_key_3 11 rfl rfl)
theorem dX2_key_82 : decode cX2_key 82 = .ok (.iastore, 1) := dk_79 (dk_at dksX2_key_3 12 rfl rfl)
theorem dX2_key_83 : decode cX2_key 83 = .ok (.aload_n 0, 1) := dk_42 (dk_at dksX2_key_3 13 rfl rfl)
theorem dX2_key_84 : decode cX2_key 84 = .ok (.getfield 7, 3) := dk_180 0 7 (dk_at dksX2_key_3 14 rfl rfl)
theorem dX2_key_87 : decode cX2_key 87 = .ok (.iload_n 3, 1) := dk_29 (dk_at dksX2_key_3 17 rfl rfl)
theorem dX2_key_88 : decode cX2_key 88 = .ok (.iaload, 1) := dk_46 (dk_at dksX2_key_3 18 rfl rfl)
theorem dX2_key_89 : decode cX2_key 89 = .ok (.ireturn, 1) := dk_172 (dk_at dksX2_key_3 19 rfl rfl)
abbrev cX2_isColour : ByteArray := prog_11_method_8_code
def yX2_isColour : MethodName := ⟨RX2, "isColour", "(I)Z"⟩
def dkwX2_isColour_0 : List UInt8 := [26, 3, 5, 184, 0, 55, 172]
abbrev dktX2_isColour_0 : List UInt8 := dkwX2_isColour_0 ++ []
theorem dksX2_isColour_0 : cX2_isColour.data.toList.drop 0 = dktX2_isColour_0 := by decide +kernel
theorem dX2_isColour_0 : decode cX2_isColour 0 = .ok (.iload_n 0, 1) := dk_26 (dk_at dksX2_isColour_0 0 rfl rfl)
theorem dX2_isColour_1 : decode cX2_isColour 1 = .ok (.iconst 0, 1) := dk_3 (dk_at dksX2_isColour_0 1 rfl rfl)
theorem dX2_isColour_2 : decode cX2_isColour 2 = .ok (.iconst 2, 1) := dk_5 (dk_at dksX2_isColour_0 2 rfl rfl)
theorem dX2_isColour_3 : decode cX2_isColour 3 = .ok (.invokestatic 55, 3) := dk_184 0 55 (dk_at dksX2_isColour_0 3 rfl rfl)
theorem dX2_isColour_6 : decode cX2_isColour 6 = .ok (.ireturn, 1) := dk_172 (dk_at dksX2_isColour_0 6 rfl rfl)
abbrev cX2_oil : ByteArray := prog_11_method_17_code
def yX2_oil : MethodName := ⟨RX2, "oil", "(II)I"⟩
def dkwX2_oil_3 : List UInt8 := [92, 46, 28, 96, 79, 42, 27, 182, 0, 86, 172]
abbrev dktX2_oil_3 : List UInt8 := dkwX2_oil_3 ++ []
def dkwX2_oil_2 : List UInt8 := [28, 96, 182, 0, 59, 172, 42, 42, 180, 0, 7, 182, 0, 63, 42, 180, 0, 7, 16, 10, 7, 27, 104, 96]
abbrev dktX2_oil_2 : List UInt8 := dkwX2_oil_2 ++ dktX2_oil_3
def dkwX2_oil_1 : List UInt8 := [17, 252, 12, 172, 42, 27, 182, 0, 86, 28, 96, 16, 50, 164, 0, 17, 42, 16, 10, 42, 27, 182, 0, 86]
abbrev dktX2_oil_1 : List UInt8 := dkwX2_oil_1 ++ dktX2_oil_2
def dkwX2_oil_0 : List UInt8 := [42, 27, 182, 0, 76, 154, 0, 7, 17, 252, 13, 172, 28, 4, 16, 50, 184, 0, 55, 154, 0, 7]
abbrev dktX2_oil_0 : List UInt8 := dkwX2_oil_0 ++ dktX2_oil_1
theorem dksX2_oil_0 : cX2_oil.data.toList.drop 0 = dktX2_oil_0 := by decide +kernel
theorem dksX2_oil_1 : cX2_oil.data.toList.drop 22 = dktX2_oil_1 := dk_seg dksX2_oil_0 22 rfl rfl
theorem dksX2_oil_2 : cX2_oil.data.toList.drop 46 = dktX2_oil_2 := dk_seg dksX2_oil_1 24 rfl rfl
theorem dksX2_oil_3 : cX2_oil.data.toList.drop 70 = dktX2_oil_3 := dk_seg dksX2_oil_2 24 rfl rfl
theorem dX2_oil_0 : decode cX2_oil 0 = .ok (.aload_n 0, 1) := dk_42 (dk_at dksX2_oil_0 0 rfl rfl)
theorem dX2_oil_1 : decode cX2_oil 1 = .ok (.iload_n 1, 1) := dk_27 (dk_at dksX2_oil_0 1 rfl rfl)
theorem dX2_oil_2 : decode cX2_oil 2 = .ok (.invokevirtual 76, 3) := dk_182 0 76 (dk_at dksX2_oil_0 2 rfl rfl)
theorem dX2_oil_5 : decode cX2_oil 5 = .ok (.ifCond .ne 7, 3) := dk_154 0 7 (dk_at dksX2_oil_0 5 rfl rfl)
theorem dX2_oil_8 : decode cX2_oil 8 = .ok (.sipush (-1011), 3) := dk_17 252 13 (dk_at dksX2_oil_0 8 rfl rfl)
theorem dX2_oil_11 : decode cX2_oil 11 = .ok (.ireturn, 1) := dk_172 (dk_at dksX2_oil_0 11 rfl rfl)
theorem dX2_oil_12 : decode cX2_oil 12 = .ok (.iload_n 2, 1) := dk_28 (dk_at dksX2_oil_0 12 rfl rfl)
theorem dX2_oil_13 : decode cX2_oil 13 = .ok (.iconst 1, 1) := dk_4 (dk_at dksX2_oil_0 13 rfl rfl)
theorem dX2_oil_14 : decode cX2_oil 14 = .ok (.bipush 50, 2) := dk_16 50 (dk_at dksX2_oil_0 14 rfl rfl)
theorem dX2_oil_16 : decode cX2_oil 16 = .ok (.invokestatic 55, 3) := dk_184 0 55 (dk_at dksX2_oil_0 16 rfl rfl)
theorem dX2_oil_19 : decode cX2_oil 19 = .ok (.ifCond .ne 7, 3) := dk_154 0 7 (dk_at dksX2_oil_0 19 rfl rfl)
theorem dX2_oil_22 : decode cX2_oil 22 = .ok (.sipush (-1012), 3) := dk_17 252 12 (dk_at dksX2_oil_1 0 rfl rfl)
theorem dX2_oil_25 : decode cX2_oil 25 = .ok (.ireturn, 1) := dk_172 (dk_at dksX2_oil_1 3 rfl rfl)
theorem dX2_oil_26 : decode cX2_oil 26 = .ok (.aload_n 0, 1) := dk_42 (dk_at dksX2_oil_1 4 rfl rfl)
theorem dX2_oil_27 : decode cX2_oil 27 = .ok (.iload_n 1, 1) := dk_27 (dk_at dksX2_oil_1 5 rfl rfl)
theorem dX2_oil_28 : decode cX2_oil 28 = .ok (.invokevirtual 86, 3) := dk_182 0 86 (dk_at dksX2_oil_1 6 rfl rfl)
theorem dX2_oil_31 : decode cX2_oil 31 = .ok (.iload_n 2, 1) := dk_28 (dk_at dksX2_oil_1 9 rfl rfl)
theorem dX2_oil_32 : decode cX2_oil 32 = .ok (.iadd, 1) := dk_96 (dk_at dksX2_oil_1 10 rfl rfl)
theorem dX2_oil_33 : decode cX2_oil 33 = .ok (.bipush 50, 2) := dk_16 50 (dk_at dksX2_oil_1 11 rfl rfl)
theorem dX2_oil_35 : decode cX2_oil 35 = .ok (.if_icmp .le 17, 3) := dk_164 0 17 (dk_at dksX2_oil_1 13 rfl rfl)
theorem dX2_oil_38 : decode cX2_oil 38 = .ok (.aload_n 0, 1) := dk_42 (dk_at dksX2_oil_1 16 rfl rfl)
theorem dX2_oil_39 : decode cX2_oil 39 = .ok (.bipush 10, 2) := dk_16 10 (dk_at dksX2_oil_1 17 rfl rfl)
theorem dX2_oil_41 : decode cX2_oil 41 = .ok (.aload_n 0, 1) := dk_42 (dk_at dksX2_oil_1 19 rfl rfl)
theorem dX2_oil_42 : decode cX2_oil 42 = .ok (.iload_n 1, 1) := dk_27 (dk_at dksX2_oil_1 20 rfl rfl)
theorem dX2_oil_43 : decode cX2_oil 43 = .ok (.invokevirtual 86, 3) := dk_182 0 86 (dk_at dksX2_oil_1 21 rfl rfl)
theorem dX2_oil_46 : decode cX2_oil 46 = .ok (.iload_n 2, 1) := dk_28 (dk_at dksX2_oil_2 0 rfl rfl)
theorem dX2_oil_47 : decode cX2_oil 47 = .ok (.iadd, 1) := dk_96 (dk_at dksX2_oil_2 1 rfl rfl)
theorem dX2_oil_48 : decode cX2_oil 48 = .ok (.invokevirtual 59, 3) := dk_182 0 59 (dk_at dksX2_oil_2 2 rfl rfl)
theorem dX2_oil_51 : decode cX2_oil 51 = .ok (.ireturn, 1) := dk_172 (dk_at dksX2_oil_2 5 rfl rfl)
theorem dX2_oil_52 : decode cX2_oil 52 = .ok (.aload_n 0, 1) := dk_42 (dk_at dksX2_oil_2 6 rfl rfl)
theorem dX2_oil_53 : decode cX2_oil 53 = .ok (.aload_n 0, 1) := dk_42 (dk_at dksX2_oil_2 7 rfl rfl)
theorem dX2_oil_54 : decode cX2_oil 54 = .ok (.getfield 7, 3) := dk_180 0 7 (dk_at dksX2_oil_2 8 rfl rfl)
theorem dX2_oil_57 : decode cX2_oil 57 = .ok (.invokevirtual 63, 3) := dk_182 0 63 (dk_at dksX2_oil_2 11 rfl rfl)
theorem dX2_oil_60 : decode cX2_oil 60 = .ok (.aload_n 0, 1) := dk_42 (dk_at dksX2_oil_2 14 rfl rfl)
theorem dX2_oil_61 : decode cX2_oil 61 = .ok (.getfield 7, 3) := dk_180 0 7 (dk_at dksX2_oil_2 15 rfl rfl)
theorem dX2_oil_64 : decode cX2_oil 64 = .ok (.bipush 10, 2) := dk_16 10 (dk_at dksX2_oil_2 18 rfl rfl)
theorem dX2_oil_66 : decode cX2_oil 66 = .ok (.iconst 4, 1) := dk_7 (dk_at dksX2_oil_2 20 rfl rfl)
theorem dX2_oil_67 : decode cX2_oil 67 = .ok (.iload_n 1, 1) := dk_27 (dk_at dksX2_oil_2 21 rfl rfl)
theorem dX2_oil_68 : decode cX2_oil 68 = .ok (.imul, 1) := dk_104 (dk_at dksX2_oil_2 22 rfl rfl)
theorem dX2_oil_69 : decode cX2_oil 69 = .ok (.iadd, 1) := dk_96 (dk_at dksX2_oil_2 23 rfl rfl)
theorem dX2_oil_70 : decode cX2_oil 70 = .ok (.dup2, 1) := dk_92 (dk_at dksX2_oil_3 0 rfl rfl)
theorem dX2_oil_71 : decode cX2_oil 71 = .ok (.iaload, 1) := dk_46 (dk_at dksX2_oil_3 1 rfl rfl)
theorem dX2_oil_72 : decode cX2_oil 72 = .ok (.iload_n 2, 1) := dk_28 (dk_at dksX2_oil_3 2 rfl rfl)
theorem dX2_oil_73 : decode cX2_oil 73 = .ok (.iadd, 1) := dk_96 (dk_at dksX2_oil_3 3 rfl rfl)
theorem dX2_oil_74 : decode cX2_oil 74 = .ok (.iastore, 1) := dk_79 (dk_at dksX2_oil_3 4 rfl rfl)
theorem dX2_oil_75 : decode cX2_oil 75 = .ok (.aload_n 0, 1) := dk_42 (dk_at dksX2_oil_3 5 rfl rfl)
theorem dX2_oil_76 : decode cX2_oil 76 = .ok (.iload_n 1, 1) := dk_27 (dk_at dksX2_oil_3 6 rfl rfl)
theorem dX2_oil_77 : decode cX2_oil 77 = .ok (.invokevirtual 86, 3) := dk_182 0 86 (dk_at dksX2_oil_3 7 rfl rfl)
theorem dX2_oil_80 : decode cX2_oil 80 = .ok (.ireturn, 1) := dk_172 (dk_at dksX2_oil_3 10 rfl rfl)
abbrev cX2_oilOf : ByteArray := prog_11_method_9_code
def yX2_oilOf : MethodName := ⟨RX2, "oilOf", "(I)I"⟩
def dkwX2_oilOf_0 : List UInt8 := [42, 180, 0, 7, 16, 10, 7, 27, 104, 96, 46, 172]
abbrev dktX2_oilOf_0 : List UInt8 := dkwX2_oilOf_0 ++ []
theorem dksX2_oilOf_0 : cX2_oilOf.data.toList.drop 0 = dktX2_oilOf_0 := by decide +kernel
theorem dX2_oilOf_0 : decode cX2_oilOf 0 = .ok (.aload_n 0, 1) := dk_42 (dk_at dksX2_oilOf_0 0 rfl rfl)
theorem dX2_oilOf_1 : decode cX2_oilOf 1 = .ok (.getfield 7, 3) := dk_180 0 7 (dk_at dksX2_oilOf_0 1 rfl rfl)
theorem dX2_oilOf_4 : decode cX2_oilOf 4 = .ok (.bipush 10, 2) := dk_16 10 (dk_at dksX2_oilOf_0 4 rfl rfl)
theorem dX2_oilOf_6 : decode cX2_oilOf 6 = .ok (.iconst 4, 1) := dk_7 (dk_at dksX2_oilOf_0 6 rfl rfl)
theorem dX2_oilOf_7 : decode cX2_oilOf 7 = .ok (.iload_n 1, 1) := dk_27 (dk_at dksX2_oilOf_0 7 rfl rfl)
theorem dX2_oilOf_8 : decode cX2_oilOf 8 = .ok (.imul, 1) := dk_104 (dk_at dksX2_oilOf_0 8 rfl rfl)
theorem dX2_oilOf_9 : decode cX2_oilOf 9 = .ok (.iadd, 1) := dk_96 (dk_at dksX2_oilOf_0 9 rfl rfl)
theorem dX2_oilOf_10 : decode cX2_oilOf 10 = .ok (.iaload, 1) := dk_46 (dk_at dksX2_oilOf_0 10 rfl rfl)
theorem dX2_oilOf_11 : decode cX2_oilOf 11 = .ok (.ireturn, 1) := dk_172 (dk_at dksX2_oilOf_0 11 rfl rfl)
abbrev cX2_go : ByteArray := prog_11_method_24_code
def yX2_go : MethodName := ⟨RX2, "go", "(I)I"⟩
def dkwX2_go_7 : List UInt8 := [46, 172]
abbrev dktX2_go_7 : List UInt8 := dkwX2_go_7 ++ []
def dkwX2_go_6 : List UInt8 := [180, 0, 7, 16, 9, 92, 46, 21, 4, 156, 0, 7, 3, 167, 0, 4, 4, 96, 79, 42, 180, 0, 7, 5]
abbrev dktX2_go_6 : List UInt8 := dkwX2_go_6 ++ dktX2_go_7
def dkwX2_go_5 : List UInt8 := [182, 0, 106, 79, 42, 180, 0, 7, 16, 50, 16, 6, 27, 104, 96, 8, 96, 92, 46, 4, 96, 79, 42]
abbrev dktX2_go_5 : List UInt8 := dkwX2_go_5 ++ dktX2_go_6
def dkwX2_go_4 : List UInt8 := [182, 0, 63, 42, 42, 28, 182, 0, 97, 182, 0, 103, 54, 4, 42, 180, 0, 7, 5, 42, 28, 27]
abbrev dktX2_go_4 : List UInt8 := dkwX2_go_4 ++ dktX2_go_5
def dkwX2_go_3 : List UInt8 := [42, 27, 29, 182, 0, 100, 154, 0, 11, 42, 16, 6, 29, 182, 0, 59, 172, 42, 42, 180, 0, 7]
abbrev dktX2_go_3 : List UInt8 := dkwX2_go_3 ++ dktX2_go_4
def dkwX2_go_2 : List UInt8 := [8, 42, 27, 6, 182, 0, 67, 182, 0, 59, 172, 42, 180, 0, 7, 6, 46, 42, 28, 182, 0, 97, 96, 62]
abbrev dktX2_go_2 : List UInt8 := dkwX2_go_2 ++ dktX2_go_3
def dkwX2_go_1 : List UInt8 := [182, 0, 90, 154, 0, 10, 42, 7, 28, 182, 0, 59, 172, 42, 27, 7, 182, 0, 67, 4, 160, 0, 15, 42]
abbrev dktX2_go_1 : List UInt8 := dkwX2_go_1 ++ dktX2_go_2
def dkwX2_go_0 : List UInt8 := [42, 27, 182, 0, 94, 154, 0, 7, 17, 252, 13, 172, 42, 180, 0, 7, 5, 46, 61, 42, 28, 27]
abbrev dktX2_go_0 : List UInt8 := dkwX2_go_0 ++ dktX2_go_1
theorem dksX2_go_0 : cX2_go.data.toList.drop 0 = dktX2_go_0 := by decide +kernel
theorem dksX2_go_1 : cX2_go.data.toList.drop 22 = dktX2_go_1 := dk_seg dksX2_go_0 22 rfl rfl
theorem dksX2_go_2 : cX2_go.data.toList.drop 46 = dktX2_go_2 := dk_seg dksX2_go_1 24 rfl rfl
theorem dksX2_go_3 : cX2_go.data.toList.drop 70 = dktX2_go_3 := dk_seg dksX2_go_2 24 rfl rfl
theorem dksX2_go_4 : cX2_go.data.toList.drop 92 = dktX2_go_4 := dk_seg dksX2_go_3 22 rfl rfl
theorem dksX2_go_5 : cX2_go.data.toList.drop 114 = dktX2_go_5 := dk_seg dksX2_go_4 22 rfl rfl
theorem dksX2_go_6 : cX2_go.data.toList.drop 137 = dktX2_go_6 := dk_seg dksX2_go_5 23 rfl rfl
theorem dksX2_go_7 : cX2_go.data.toList.drop 161 = dktX2_go_7 := dk_seg dksX2_go_6 24 rfl rfl
theorem dX2_go_0 : decode cX2_go 0 = .ok (.aload_n 0, 1) := dk_42 (dk_at dksX2_go_0 0 rfl rfl)
theorem dX2_go_1 : decode cX2_go 1 = .ok (.iload_n 1, 1) := dk_27 (dk_at dksX2_go_0 1 rfl rfl)
theorem dX2_go_2 : decode cX2_go 2 = .ok (.invokevirtual 94, 3) := dk_182 0 94 (dk_at dksX2_go_0 2 rfl rfl)
theorem dX2_go_5 : decode cX2_go 5 = .ok (.ifCond .ne 7, 3) := dk_154 0 7 (dk_at dksX2_go_0 5 rfl rfl)
theorem dX2_go_8 : decode cX2_go 8 = .ok (.sipush (-1011), 3) := dk_17 252 13 (dk_at dksX2_go_0 8 rfl rfl)
theorem dX2_go_11 : decode cX2_go 11 = .ok (.ireturn, 1) := dk_172 (dk_at dksX2_go_0 11 rfl rfl)
theorem dX2_go_12 : decode cX2_go 12 = .ok (.aload_n 0, 1) := dk_42 (dk_at dksX2_go_0 12 rfl rfl)
theorem dX2_go_13 : decode cX2_go 13 = .ok (.getfield 7, 3) := dk_180 0 7 (dk_at dksX2_go_0 13 rfl rfl)
theorem dX2_go_16 : decode cX2_go 16 = .ok (.iconst 2, 1) := dk_5 (dk_at dksX2_go_0 16 rfl rfl)
theorem dX2_go_17 : decode cX2_go 17 = .ok (.iaload, 1) := dk_46 (dk_at dksX2_go_0 17 rfl rfl)
theorem dX2_go_18 : decode cX2_go 18 = .ok (.istore_n 2, 1) := dk_61 (dk_at dksX2_go_0 18 rfl rfl)
theorem dX2_go_19 : decode cX2_go 19 = .ok (.aload_n 0, 1) := dk_42 (dk_at dksX2_go_0 19 rfl rfl)
theorem dX2_go_20 : decode cX2_go 20 = .ok (.iload_n 2, 1) := dk_28 (dk_at dksX2_go_0 20 rfl rfl)
theorem dX2_go_21 : decode cX2_go 21 = .ok (.iload_n 1, 1) := dk_27 (dk_at dksX2_go_0 21 rfl rfl)
theorem dX2_go_22 : decode cX2_go 22 = .ok (.invokevirtual 90, 3) := dk_182 0 90 (dk_at dksX2_go_1 0 rfl rfl)
theorem dX2_go_25 : decode cX2_go 25 = .ok (.ifCond .ne 10, 3) := dk_154 0 10 (dk_at dksX2_go_1 3 rfl rfl)
theorem dX2_go_28 : decode cX2_go 28 = .ok (.aload_n 0, 1) := dk_42 (dk_at dksX2_go_1 6 rfl rfl)
theorem dX2_go_29 : decode cX2_go 29 = .ok (.iconst 4, 1) := dk_7 (dk_at dksX2_go_1 7 rfl rfl)
theorem dX2_go_30 : decode cX2_go 30 = .ok (.iload_n 2, 1) := dk_28 (dk_at dksX2_go_1 8 rfl rfl)
theorem dX2_go_31 : decode cX2_go 31 = .ok (.invokevirtual 59, 3) := dk_182 0 59 (dk_at dksX2_go_1 9 rfl rfl)
theorem dX2_go_34 : decode cX2_go 34 = .ok (.ireturn, 1) := dk_172 (dk_at dksX2_go_1 12 rfl rfl)
theorem dX2_go_35 : decode cX2_go 35 = .ok (.aload_n 0, 1) := dk_42 (dk_at dksX2_go_1 13 rfl rfl)
theorem dX2_go_36 : decode cX2_go 36 = .ok (.iload_n 1, 1) := dk_27 (dk_at dksX2_go_1 14 rfl rfl)
theorem dX2_go_37 : decode cX2_go 37 = .ok (.iconst 4, 1) := dk_7 (dk_at dksX2_go_1 15 rfl rfl)
theorem dX2_go_38 : decode cX2_go 38 = .ok (.invokevirtual 67, 3) := dk_182 0 67 (dk_at dksX2_go_1 16 rfl rfl)
theorem dX2_go_41 : decode cX2_go 41 = .ok (.iconst 1, 1) := dk_4 (dk_at dksX2_go_1 19 rfl rfl)
theorem dX2_go_42 : decode cX2_go 42 = .ok (.if_icmp .ne 15, 3) := dk_160 0 15 (dk_at dksX2_go_1 20 rfl rfl)
theorem dX2_go_45 : decode cX2_go 45 = .ok (.aload_n 0, 1) := dk_42 (dk_at dksX2_go_1 23 rfl rfl)
theorem dX2_go_46 : decode cX2_go 46 = .ok (.iconst 5, 1) := dk_8 (dk_at dksX2_go_2 0 rfl rfl)
theorem dX2_go_47 : decode cX2_go 47 = .ok (.aload_n 0, 1) := dk_42 (dk_at dksX2_go_2 1 rfl rfl)
theorem dX2_go_48 : decode cX2_go 48 = .ok (.iload_n 1, 1) := dk_27 (dk_at dksX2_go_2 2 rfl rfl)
theorem dX2_go_49 : decode cX2_go 49 = .ok (.iconst 3, 1) := dk_6 (dk_at dksX2_go_2 3 rfl rfl)
theorem dX2_go_50 : decode cX2_go 50 = .ok (.invokevirtual 67, 3) := dk_182 0 67 (dk_at dksX2_go_2 4 rfl rfl)
theorem dX2_go_53 : decode cX2_go 53 = .ok (.invokevirtual 59, 3) := dk_182 0 59 (dk_at dksX2_go_2 7 rfl rfl)
theorem dX2_go_56 : decode cX2_go 56 = .ok (.ireturn, 1) := dk_172 (dk_at dksX2_go_2 10 rfl rfl)
theorem dX2_go_57 : decode cX2_go 57 = .ok (.aload_n 0, 1) := dk_42 (dk_at dksX2_go_2 11 rfl rfl)
theorem dX2_go_58 : decode cX2_go 58 = .ok (.getfield 7, 3) := dk_180 0 7 (dk_at dksX2_go_2 12 rfl rfl)
theorem dX2_go_61 : decode cX2_go 61 = .ok (.iconst 3, 1) := dk_6 (dk_at dksX2_go_2 15 rfl rfl)
theorem dX2_go_62 : decode cX2_go 62 = .ok (.iaload, 1) := dk_46 (dk_at dksX2_go_2 16 rfl rfl)
theorem dX2_go_63 : decode cX2_go 63 = .ok (.aload_n 0, 1) := dk_42 (dk_at dksX2_go_2 17 rfl rfl)
theorem dX2_go_64 : decode cX2_go 64 = .ok (.iload_n 2, 1) := dk_28 (dk_at dksX2_go_2 18 rfl rfl)
theorem dX2_go_65 : decode cX2_go 65 = .ok (.invokevirtual 97, 3) := dk_182 0 97 (dk_at dksX2_go_2 19 rfl rfl)
theorem dX2_go_68 : decode cX2_go 68 = .ok (.iadd, 1) := dk_96 (dk_at dksX2_go_2 22 rfl rfl)
theorem dX2_go_69 : decode cX2_go 69 = .ok (.istore_n 3, 1) := dk_62 (dk_at dksX2_go_2 23 rfl rfl)
theorem dX2_go_70 : decode cX2_go 70 = .ok (.aload_n 0, 1) := dk_42 (dk_at dksX2_go_3 0 rfl rfl)
theorem dX2_go_71 : decode cX2_go 71 = .ok (.iload_n 1, 1) := dk_27 (dk_at dksX2_go_3 1 rfl rfl)
theorem dX2_go_72 : decode cX2_go 72 = .ok (.iload_n 3, 1) := dk_29 (dk_at dksX2_go_3 2 rfl rfl)
theorem dX2_go_73 : decode cX2_go 73 = .ok (.invokevirtual 100, 3) := dk_182 0 100 (dk_at dksX2_go_3 3 rfl rfl)
theorem dX2_go_76 : decode cX2_go 76 = .ok (.ifCond .ne 11, 3) := dk_154 0 11 (dk_at dksX2_go_3 6 rfl rfl)
theorem dX2_go_79 : decode cX2_go 79 = .ok (.aload_n 0, 1) := dk_42 (dk_at dksX2_go_3 9 rfl rfl)
theorem dX2_go_80 : decode cX2_go 80 = .ok (.bipush 6, 2) := dk_16 6 (dk_at dksX2_go_3 10 rfl rfl)
theorem dX2_go_82 : decode cX2_go 82 = .ok (.iload_n 3, 1) := dk_29 (dk_at dksX2_go_3 12 rfl rfl)
theorem dX2_go_83 : decode cX2_go 83 = .ok (.invokevirtual 59, 3) := dk_182 0 59 (dk_at dksX2_go_3 13 rfl rfl)
theorem dX2_go_86 : decode cX2_go 86 = .ok (.ireturn, 1) := dk_172 (dk_at dksX2_go_3 16 rfl rfl)
theorem dX2_go_87 : decode cX2_go 87 = .ok (.aload_n 0, 1) := dk_42 (dk_at dksX2_go_3 17 rfl rfl)
theorem dX2_go_88 : decode cX2_go 88 = .ok (.aload_n 0, 1) := dk_42 (dk_at dksX2_go_3 18 rfl rfl)
theorem dX2_go_89 : decode cX2_go 89 = .ok (.getfield 7, 3) := dk_180 0 7 (dk_at dksX2_go_3 19 rfl rfl)
theorem dX2_go_92 : decode cX2_go 92 = .ok (.invokevirtual 63, 3) := dk_182 0 63 (dk_at dksX2_go_4 0 rfl rfl)
theorem dX2_go_95 : decode cX2_go 95 = .ok (.aload_n 0, 1) := dk_42 (dk_at dksX2_go_4 3 rfl rfl)
theorem dX2_go_96 : decode cX2_go 96 = .ok (.aload_n 0, 1) := dk_42 (dk_at dksX2_go_4 4 rfl rfl)
theorem dX2_go_97 : decode cX2_go 97 = .ok (.iload_n 2, 1) := dk_28 (dk_at dksX2_go_4 5 rfl rfl)
theorem dX2_go_98 : decode cX2_go 98 = .ok (.invokevirtual 97, 3) := dk_182 0 97 (dk_at dksX2_go_4 6 rfl rfl)
theorem dX2_go_101 : decode cX2_go 101 = .ok (.invokevirtual 103, 3) := dk_182 0 103 (dk_at dksX2_go_4 9 rfl rfl)
theorem dX2_go_104 : decode cX2_go 104 = .ok (.istore 4, 2) := dk_54 4 (dk_at dksX2_go_4 12 rfl rfl)
theorem dX2_go_106 : decode cX2_go 106 = .ok (.aload_n 0, 1) := dk_42 (dk_at dksX2_go_4 14 rfl rfl)
theorem dX2_go_107 : decode cX2_go 107 = .ok (.getfield 7, 3) := dk_180 0 7 (dk_at dksX2_go_4 15 rfl rfl)
theorem dX2_go_110 : decode cX2_go 110 = .ok (.iconst 2, 1) := dk_5 (dk_at dksX2_go_4 18 rfl rfl)
theorem dX2_go_111 : decode cX2_go 111 = .ok (.aload_n 0, 1) := dk_42 (dk_at dksX2_go_4 19 rfl rfl)
theorem dX2_go_112 : decode cX2_go 112 = .ok (.iload_n 2, 1) := dk_28 (dk_at dksX2_go_4 20 rfl rfl)
theorem dX2_go_113 : decode cX2_go 113 = .ok (.iload_n 1, 1) := dk_27 (dk_at dksX2_go_4 21 rfl rfl)
theorem dX2_go_114 : decode cX2_go 114 = .ok (.invokevirtual 106, 3) := dk_182 0 106 (dk_at dksX2_go_5 0 rfl rfl)
theorem dX2_go_117 : decode cX2_go 117 = .ok (.iastore, 1) := dk_79 (dk_at dksX2_go_5 3 rfl rfl)
theorem dX2_go_118 : decode cX2_go 118 = .ok (.aload_n 0, 1) := dk_42 (dk_at dksX2_go_5 4 rfl rfl)
theorem dX2_go_119 : decode cX2_go 119 = .ok (.getfield 7, 3) := dk_180 0 7 (dk_at dksX2_go_5 5 rfl rfl)
theorem dX2_go_122 : decode cX2_go 122 = .ok (.bipush 50, 2) := dk_16 50 (dk_at dksX2_go_5 8 rfl rfl)
theorem dX2_go_124 : decode cX2_go 124 = .ok (.bipush 6, 2) := dk_16 6 (dk_at dksX2_go_5 10 rfl rfl)
theorem dX2_go_126 : decode cX2_go 126 = .ok (.iload_n 1, 1) := dk_27 (dk_at dksX2_go_5 12 rfl rfl)
theorem dX2_go_127 : decode cX2_go 127 = .ok (.imul, 1) := dk_104 (dk_at dksX2_go_5 13 rfl rfl)
theorem dX2_go_128 : decode cX2_go 128 = .ok (.iadd, 1) := dk_96 (dk_at dksX2_go_5 14 rfl rfl)
theorem dX2_go_129 : decode cX2_go 129 = .ok (.iconst 5, 1) := dk_8 (dk_at dksX2_go_5 15 rfl rfl)
theorem dX2_go_130 : decode cX2_go 130 = .ok (.iadd, 1) := dk_96 (dk_at dksX2_go_5 16 rfl rfl)
theorem dX2_go_131 : decode cX2_go 131 = .ok (.dup2, 1) := dk_92 (dk_at dksX2_go_5 17 rfl rfl)
theorem dX2_go_132 : decode cX2_go 132 = .ok (.iaload, 1) := dk_46 (dk_at dksX2_go_5 18 rfl rfl)
theorem dX2_go_133 : decode cX2_go 133 = .ok (.iconst 1, 1) := dk_4 (dk_at dksX2_go_5 19 rfl rfl)
theorem dX2_go_134 : decode cX2_go 134 = .ok (.iadd, 1) := dk_96 (dk_at dksX2_go_5 20 rfl rfl)
theorem dX2_go_135 : decode cX2_go 135 = .ok (.iastore, 1) := dk_79 (dk_at dksX2_go_5 21 rfl rfl)
theorem dX2_go_136 : decode cX2_go 136 = .ok (.aload_n 0, 1) := dk_42 (dk_at dksX2_go_5 22 rfl rfl)
theorem dX2_go_137 : decode cX2_go 137 = .ok (.getfield 7, 3) := dk_180 0 7 (dk_at dksX2_go_6 0 rfl rfl)
theorem dX2_go_140 : decode cX2_go 140 = .ok (.bipush 9, 2) := dk_16 9 (dk_at dksX2_go_6 3 rfl rfl)
theorem dX2_go_142 : decode cX2_go 142 = .ok (.dup2, 1) := dk_92 (dk_at dksX2_go_6 5 rfl rfl)
theorem dX2_go_143 : decode cX2_go 143 = .ok (.iaload, 1) := dk_46 (dk_at dksX2_go_6 6 rfl rfl)
theorem dX2_go_144 : decode cX2_go 144 = .ok (.iload 4, 2) := dk_21 4 (dk_at dksX2_go_6 7 rfl rfl)
theorem dX2_go_146 : decode cX2_go 146 = .ok (.ifCond .ge 7, 3) := dk_156 0 7 (dk_at dksX2_go_6 9 rfl rfl)
theorem dX2_go_149 : decode cX2_go 149 = .ok (.iconst 0, 1) := dk_3 (dk_at dksX2_go_6 12 rfl rfl)
theorem dX2_go_150 : decode cX2_go 150 = .ok (.goto 4, 3) := dk_167 0 4 (dk_at dksX2_go_6 13 rfl rfl)
theorem dX2_go_153 : decode cX2_go 153 = .ok (.iconst 1, 1) := dk_4 (dk_at dksX2_go_6 16 rfl rfl)
theorem dX2_go_154 : decode cX2_go 154 = .ok (.iadd, 1) := dk_96 (dk_at dksX2_go_6 17 rfl rfl)
theorem dX2_go_155 : decode cX2_go 155 = .ok (.iastore, 1) := dk_79 (dk_at dksX2_go_6 18 rfl rfl)
theorem dX2_go_156 : decode cX2_go 156 = .ok (.aload_n 0, 1) := dk_42 (dk_at dksX2_go_6 19 rfl rfl)
theorem dX2_go_157 : decode cX2_go 157 = .ok (.getfield 7, 3) := dk_180 0 7 (dk_at dksX2_go_6 20 rfl rfl)
theorem dX2_go_160 : decode cX2_go 160 = .ok (.iconst 2, 1) := dk_5 (dk_at dksX2_go_6 23 rfl rfl)
theorem dX2_go_161 : decode cX2_go 161 = .ok (.iaload, 1) := dk_46 (dk_at dksX2_go_7 0 rfl rfl)
theorem dX2_go_162 : decode cX2_go 162 = .ok (.ireturn, 1) := dk_172 (dk_at dksX2_go_7 1 rfl rfl)
abbrev cX2_isDoor : ByteArray := prog_11_method_7_code
def yX2_isDoor : MethodName := ⟨RX2, "isDoor", "(I)Z"⟩
def dkwX2_isDoor_0 : List UInt8 := [27, 3, 42, 180, 0, 7, 4, 46, 4, 100, 184, 0, 55, 172]
abbrev dktX2_isDoor_0 : List UInt8 := dkwX2_isDoor_0 ++ []
theorem dksX2_isDoor_0 : cX2_isDoor.data.toList.drop 0 = dktX2_isDoor_0 := by decide +kernel
theorem dX2_isDoor_0 : decode cX2_isDoor 0 = .ok (.iload_n 1, 1) := dk_27 (dk_at dksX2_isDoor_0 0 rfl rfl)
theorem dX2_isDoor_1 : decode cX2_isDoor 1 = .ok (.iconst 0, 1) := dk_3 (dk_at dksX2_isDoor_0 1 rfl rfl)
theorem dX2_isDoor_2 : decode cX2_isDoor 2 = .ok (.aload_n 0, 1) := dk_42 (dk_at dksX2_isDoor_0 2 rfl rfl)
theorem dX2_isDoor_3 : decode cX2_isDoor 3 = .ok (.getfield 7, 3) := dk_180 0 7 (dk_at dksX2_isDoor_0 3 rfl rfl)
theorem dX2_isDoor_6 : decode cX2_isDoor 6 = .ok (.iconst 1, 1) := dk_4 (dk_at dksX2_isDoor_0 6 rfl rfl)
theorem dX2_isDoor_7 : decode cX2_isDoor 7 = .ok (.iaload, 1) := dk_46 (dk_at dksX2_isDoor_0 7 rfl rfl)
theorem dX2_isDoor_8 : decode cX2_isDoor 8 = .ok (.iconst 1, 1) := dk_4 (dk_at dksX2_isDoor_0 8 rfl rfl)
theorem dX2_isDoor_9 : decode cX2_isDoor 9 = .ok (.isub, 1) := dk_100 (dk_at dksX2_isDoor_0 9 rfl rfl)
theorem dX2_isDoor_10 : decode cX2_isDoor 10 = .ok (.invokestatic 55, 3) := dk_184 0 55 (dk_at dksX2_isDoor_0 10 rfl rfl)
theorem dX2_isDoor_13 : decode cX2_isDoor 13 = .ok (.ireturn, 1) := dk_172 (dk_at dksX2_isDoor_0 13 rfl rfl)
abbrev cX2_isAt : ByteArray := prog_11_method_18_code
def yX2_isAt : MethodName := ⟨RX2, "isAt", "(II)Z"⟩
def dkwX2_isAt_1 : List UInt8 := [3, 172]
abbrev dktX2_isAt_1 : List UInt8 := dkwX2_isAt_1 ++ []
def dkwX2_isAt_0 : List UInt8 := [42, 28, 3, 182, 0, 67, 27, 159, 0, 13, 42, 28, 4, 182, 0, 67, 27, 160, 0, 7, 4, 167, 0, 4]
abbrev dktX2_isAt_0 : List UInt8 := dkwX2_isAt_0 ++ dktX2_isAt_1
theorem dksX2_isAt_0 : cX2_isAt.data.toList.drop 0 = dktX2_isAt_0 := by decide +kernel
theorem dksX2_isAt_1 : cX2_isAt.data.toList.drop 24 = dktX2_isAt_1 := dk_seg dksX2_isAt_0 24 rfl rfl
theorem dX2_isAt_0 : decode cX2_isAt 0 = .ok (.aload_n 0, 1) := dk_42 (dk_at dksX2_isAt_0 0 rfl rfl)
theorem dX2_isAt_1 : decode cX2_isAt 1 = .ok (.iload_n 2, 1) := dk_28 (dk_at dksX2_isAt_0 1 rfl rfl)
theorem dX2_isAt_2 : decode cX2_isAt 2 = .ok (.iconst 0, 1) := dk_3 (dk_at dksX2_isAt_0 2 rfl rfl)
theorem dX2_isAt_3 : decode cX2_isAt 3 = .ok (.invokevirtual 67, 3) := dk_182 0 67 (dk_at dksX2_isAt_0 3 rfl rfl)
theorem dX2_isAt_6 : decode cX2_isAt 6 = .ok (.iload_n 1, 1) := dk_27 (dk_at dksX2_isAt_0 6 rfl rfl)
theorem dX2_isAt_7 : decode cX2_isAt 7 = .ok (.if_icmp .eq 13, 3) := dk_159 0 13 (dk_at dksX2_isAt_0 7 rfl rfl)
theorem dX2_isAt_10 : decode cX2_isAt 10 = .ok (.aload_n 0, 1) := dk_42 (dk_at dksX2_isAt_0 10 rfl rfl)
theorem dX2_isAt_11 : decode cX2_isAt 11 = .ok (.iload_n 2, 1) := dk_28 (dk_at dksX2_isAt_0 11 rfl rfl)
theorem dX2_isAt_12 : decode cX2_isAt 12 = .ok (.iconst 1, 1) := dk_4 (dk_at dksX2_isAt_0 12 rfl rfl)
theorem dX2_isAt_13 : decode cX2_isAt 13 = .ok (.invokevirtual 67, 3) := dk_182 0 67 (dk_at dksX2_isAt_0 13 rfl rfl)
theorem dX2_isAt_16 : decode cX2_isAt 16 = .ok (.iload_n 1, 1) := dk_27 (dk_at dksX2_isAt_0 16 rfl rfl)
theorem dX2_isAt_17 : decode cX2_isAt 17 = .ok (.if_icmp .ne 7, 3) := dk_160 0 7 (dk_at dksX2_isAt_0 17 rfl rfl)
theorem dX2_isAt_20 : decode cX2_isAt 20 = .ok (.iconst 1, 1) := dk_4 (dk_at dksX2_isAt_0 20 rfl rfl)
theorem dX2_isAt_21 : decode cX2_isAt 21 = .ok (.goto 4, 3) := dk_167 0 4 (dk_at dksX2_isAt_0 21 rfl rfl)
theorem dX2_isAt_24 : decode cX2_isAt 24 = .ok (.iconst 0, 1) := dk_3 (dk_at dksX2_isAt_1 0 rfl rfl)
theorem dX2_isAt_25 : decode cX2_isAt 25 = .ok (.ireturn, 1) := dk_172 (dk_at dksX2_isAt_1 1 rfl rfl)
abbrev cX2_needs : ByteArray := prog_11_method_21_code
def yX2_needs : MethodName := ⟨RX2, "needs", "(I)I"⟩
def dkwX2_needs_0 : List UInt8 := [42, 27, 182, 0, 86, 158, 0, 7, 4, 167, 0, 4, 5, 172]
abbrev dktX2_needs_0 : List UInt8 := dkwX2_needs_0 ++ []
theorem dksX2_needs_0 : cX2_needs.data.toList.drop 0 = dktX2_needs_0 := by decide +kernel
theorem dX2_needs_0 : decode cX2_needs 0 = .ok (.aload_n 0, 1) := dk_42 (dk_at dksX2_needs_0 0 rfl rfl)
theorem dX2_needs_1 : decode cX2_needs 1 = .ok (.iload_n 1, 1) := dk_27 (dk_at dksX2_needs_0 1 rfl rfl)
theorem dX2_needs_2 : decode cX2_needs 2 = .ok (.invokevirtual 86, 3) := dk_182 0 86 (dk_at dksX2_needs_0 2 rfl rfl)
theorem dX2_needs_5 : decode cX2_needs 5 = .ok (.ifCond .le 7, 3) := dk_158 0 7 (dk_at dksX2_needs_0 5 rfl rfl)
theorem dX2_needs_8 : decode cX2_needs 8 = .ok (.iconst 1, 1) := dk_4 (dk_at dksX2_needs_0 8 rfl rfl)
theorem dX2_needs_9 : decode cX2_needs 9 = .ok (.goto 4, 3) := dk_167 0 4 (dk_at dksX2_needs_0 9 rfl rfl)
theorem dX2_needs_12 : decode cX2_needs 12 = .ok (.iconst 2, 1) := dk_5 (dk_at dksX2_needs_0 12 rfl rfl)
theorem dX2_needs_13 : decode cX2_needs 13 = .ok (.ireturn, 1) := dk_172 (dk_at dksX2_needs_0 13 rfl rfl)
abbrev cX2_isFor : ByteArray := prog_11_method_22_code
def yX2_isFor : MethodName := ⟨RX2, "isFor", "(II)Z"⟩
def dkwX2_isFor_1 : List UInt8 := [167, 0, 4, 3, 160, 0, 7, 4, 167, 0, 4, 3, 172]
abbrev dktX2_isFor_1 : List UInt8 := dkwX2_isFor_1 ++ []
def dkwX2_isFor_0 : List UInt8 := [42, 27, 5, 182, 0, 67, 153, 0, 24, 28, 5, 112, 42, 27, 5, 182, 0, 67, 4, 160, 0, 7, 4]
abbrev dktX2_isFor_0 : List UInt8 := dkwX2_isFor_0 ++ dktX2_isFor_1
theorem dksX2_isFor_0 : cX2_isFor.data.toList.drop 0 = dktX2_isFor_0 := by decide +kernel
theorem dksX2_isFor_1 : cX2_isFor.data.toList.drop 23 = dktX2_isFor_1 := dk_seg dksX2_isFor_0 23 rfl rfl
theorem dX2_isFor_0 : decode cX2_isFor 0 = .ok (.aload_n 0, 1) := dk_42 (dk_at dksX2_isFor_0 0 rfl rfl)
theorem dX2_isFor_1 : decode cX2_isFor 1 = .ok (.iload_n 1, 1) := dk_27 (dk_at dksX2_isFor_0 1 rfl rfl)
theorem dX2_isFor_2 : decode cX2_isFor 2 = .ok (.iconst 2, 1) := dk_5 (dk_at dksX2_isFor_0 2 rfl rfl)
theorem dX2_isFor_3 : decode cX2_isFor 3 = .ok (.invokevirtual 67, 3) := dk_182 0 67 (dk_at dksX2_isFor_0 3 rfl rfl)
theorem dX2_isFor_6 : decode cX2_isFor 6 = .ok (.ifCond .eq 24, 3) := dk_153 0 24 (dk_at dksX2_isFor_0 6 rfl rfl)
theorem dX2_isFor_9 : decode cX2_isFor 9 = .ok (.iload_n 2, 1) := dk_28 (dk_at dksX2_isFor_0 9 rfl rfl)
theorem dX2_isFor_10 : decode cX2_isFor 10 = .ok (.iconst 2, 1) := dk_5 (dk_at dksX2_isFor_0 10 rfl rfl)
theorem dX2_isFor_11 : decode cX2_isFor 11 = .ok (.irem, 1) := dk_112 (dk_at dksX2_isFor_0 11 rfl rfl)
theorem dX2_isFor_12 : decode cX2_isFor 12 = .ok (.aload_n 0, 1) := dk_42 (dk_at dksX2_isFor_0 12 rfl rfl)
theorem dX2_isFor_13 : decode cX2_isFor 13 = .ok (.iload_n 1, 1) := dk_27 (dk_at dksX2_isFor_0 13 rfl rfl)
theorem dX2_isFor_14 : decode cX2_isFor 14 = .ok (.iconst 2, 1) := dk_5 (dk_at dksX2_isFor_0 14 rfl rfl)
theorem dX2_isFor_15 : decode cX2_isFor 15 = .ok (.invokevirtual 67, 3) := dk_182 0 67 (dk_at dksX2_isFor_0 15 rfl rfl)
theorem dX2_isFor_18 : decode cX2_isFor 18 = .ok (.iconst 1, 1) := dk_4 (dk_at dksX2_isFor_0 18 rfl rfl)
theorem dX2_isFor_19 : decode cX2_isFor 19 = .ok (.if_icmp .ne 7, 3) := dk_160 0 7 (dk_at dksX2_isFor_0 19 rfl rfl)
theorem dX2_isFor_22 : decode cX2_isFor 22 = .ok (.iconst 1, 1) := dk_4 (dk_at dksX2_isFor_0 22 rfl rfl)
theorem dX2_isFor_23 : decode cX2_isFor 23 = .ok (.goto 4, 3) := dk_167 0 4 (dk_at dksX2_isFor_1 0 rfl rfl)
theorem dX2_isFor_26 : decode cX2_isFor 26 = .ok (.iconst 0, 1) := dk_3 (dk_at dksX2_isFor_1 3 rfl rfl)
theorem dX2_isFor_27 : decode cX2_isFor 27 = .ok (.if_icmp .ne 7, 3) := dk_160 0 7 (dk_at dksX2_isFor_1 4 rfl rfl)
theorem dX2_isFor_30 : decode cX2_isFor 30 = .ok (.iconst 1, 1) := dk_4 (dk_at dksX2_isFor_1 7 rfl rfl)
theorem dX2_isFor_31 : decode cX2_isFor 31 = .ok (.goto 4, 3) := dk_167 0 4 (dk_at dksX2_isFor_1 8 rfl rfl)
theorem dX2_isFor_34 : decode cX2_isFor 34 = .ok (.iconst 0, 1) := dk_3 (dk_at dksX2_isFor_1 11 rfl rfl)
theorem dX2_isFor_35 : decode cX2_isFor 35 = .ok (.ireturn, 1) := dk_172 (dk_at dksX2_isFor_1 12 rfl rfl)
abbrev cX2_burns : ByteArray := prog_11_method_23_code
def yX2_burns : MethodName := ⟨RX2, "burns", "(I)I"⟩
def dkwX2_burns_3 : List UInt8 := [167, 255, 192, 42, 180, 0, 7, 6, 92, 46, 27, 96, 79, 28, 172]
abbrev dktX2_burns_3 : List UInt8 := dkwX2_burns_3 ++ []
def dkwX2_burns_2 : List UInt8 := [28, 21, 4, 158, 0, 13, 21, 4, 27, 163, 0, 7, 4, 167, 0, 4, 3, 96, 61, 132, 3, 1]
abbrev dktX2_burns_2 : List UInt8 := dkwX2_burns_2 ++ dktX2_burns_3
def dkwX2_burns_1 : List UInt8 := [180, 0, 7, 16, 10, 7, 29, 104, 96, 21, 4, 27, 164, 0, 10, 21, 4, 27, 100, 167, 0, 4, 3, 79]
abbrev dktX2_burns_1 : List UInt8 := dkwX2_burns_1 ++ dktX2_burns_2
def dkwX2_burns_0 : List UInt8 := [3, 61, 3, 62, 29, 42, 180, 0, 7, 3, 46, 162, 0, 60, 42, 29, 182, 0, 86, 54, 4, 42]
abbrev dktX2_burns_0 : List UInt8 := dkwX2_burns_0 ++ dktX2_burns_1
theorem dksX2_burns_0 : cX2_burns.data.toList.drop 0 = dktX2_burns_0 := by decide +kernel
theorem dksX2_burns_1 : cX2_burns.data.toList.drop 22 = dktX2_burns_1 := dk_seg dksX2_burns_0 22 rfl rfl
theorem dksX2_burns_2 : cX2_burns.data.toList.drop 46 = dktX2_burns_2 := dk_seg dksX2_burns_1 24 rfl rfl
theorem dksX2_burns_3 : cX2_burns.data.toList.drop 68 = dktX2_burns_3 := dk_seg dksX2_burns_2 22 rfl rfl
theorem dX2_burns_0 : decode cX2_burns 0 = .ok (.iconst 0, 1) := dk_3 (dk_at dksX2_burns_0 0 rfl rfl)
theorem dX2_burns_1 : decode cX2_burns 1 = .ok (.istore_n 2, 1) := dk_61 (dk_at dksX2_burns_0 1 rfl rfl)
theorem dX2_burns_2 : decode cX2_burns 2 = .ok (.iconst 0, 1) := dk_3 (dk_at dksX2_burns_0 2 rfl rfl)
theorem dX2_burns_3 : decode cX2_burns 3 = .ok (.istore_n 3, 1) := dk_62 (dk_at dksX2_burns_0 3 rfl rfl)
theorem dX2_burns_4 : decode cX2_burns 4 = .ok (.iload_n 3, 1) := dk_29 (dk_at dksX2_burns_0 4 rfl rfl)
theorem dX2_burns_5 : decode cX2_burns 5 = .ok (.aload_n 0, 1) := dk_42 (dk_at dksX2_burns_0 5 rfl rfl)
theorem dX2_burns_6 : decode cX2_burns 6 = .ok (.getfield 7, 3) := dk_180 0 7 (dk_at dksX2_burns_0 6 rfl rfl)
theorem dX2_burns_9 : decode cX2_burns 9 = .ok (.iconst 0, 1) := dk_3 (dk_at dksX2_burns_0 9 rfl rfl)
theorem dX2_burns_10 : decode cX2_burns 10 = .ok (.iaload, 1) := dk_46 (dk_at dksX2_burns_0 10 rfl rfl)
theorem dX2_burns_11 : decode cX2_burns 11 = .ok (.if_icmp .ge 60, 3) := dk_162 0 60 (dk_at dksX2_burns_0 11 rfl rfl)
theorem dX2_burns_14 : decode cX2_burns 14 = .ok (.aload_n 0, 1) := dk_42 (dk_at dksX2_burns_0 14 rfl rfl)
theorem dX2_burns_15 : decode cX2_burns 15 = .ok (.iload_n 3, 1) := dk_29 (dk_at dksX2_burns_0 15 rfl rfl)
theorem dX2_burns_16 : decode cX2_burns 16 = .ok (.invokevirtual 86, 3) := dk_182 0 86 (dk_at dksX2_burns_0 16 rfl rfl)
theorem dX2_burns_19 : decode cX2_burns 19 = .ok (.istore 4, 2) := dk_54 4 (dk_at dksX2_burns_0 19 rfl rfl)
theorem dX2_burns_21 : decode cX2_burns 21 = .ok (.aload_n 0, 1) := dk_42 (dk_at dksX2_burns_0 21 rfl rfl)
theorem dX2_burns_22 : decode cX2_burns 22 = .ok (.getfield 7, 3) := dk_180 0 7 (dk_at dksX2_burns_1 0 rfl rfl)
theorem dX2_burns_25 : decode cX2_burns 25 = .ok (.bipush 10, 2) := dk_16 10 (dk_at dksX2_burns_1 3 rfl rfl)
theorem dX2_burns_27 : decode cX2_burns 27 = .ok (.iconst 4, 1) := dk_7 (dk_at dksX2_burns_1 5 rfl rfl)
theorem dX2_burns_28 : decode cX2_burns 28 = .ok (.iload_n 3, 1) := dk_29 (dk_at dksX2_burns_1 6 rfl rfl)
theorem dX2_burns_29 : decode cX2_burns 29 = .ok (.imul, 1) := dk_104 (dk_at dksX2_burns_1 7 rfl rfl)
theorem dX2_burns_30 : decode cX2_burns 30 = .ok (.iadd, 1) := dk_96 (dk_at dksX2_burns_1 8 rfl rfl)
theorem dX2_burns_31 : decode cX2_burns 31 = .ok (.iload 4, 2) := dk_21 4 (dk_at dksX2_burns_1 9 rfl rfl)
theorem dX2_burns_33 : decode cX2_burns 33 = .ok (.iload_n 1, 1) := dk_27 (dk_at dksX2_burns_1 11 rfl rfl)
theorem dX2_burns_34 : decode cX2_burns 34 = .ok (.if_icmp .le 10, 3) := dk_164 0 10 (dk_at dksX2_burns_1 12 rfl rfl)
theorem dX2_burns_37 : decode cX2_burns 37 = .ok (.iload 4, 2) := dk_21 4 (dk_at dksX2_burns_1 15 rfl rfl)
theorem dX2_burns_39 : decode cX2_burns 39 = .ok (.iload_n 1, 1) := dk_27 (dk_at dksX2_burns_1 17 rfl rfl)
theorem dX2_burns_40 : decode cX2_burns 40 = .ok (.isub, 1) := dk_100 (dk_at dksX2_burns_1 18 rfl rfl)
theorem dX2_burns_41 : decode cX2_burns 41 = .ok (.goto 4, 3) := dk_167 0 4 (dk_at dksX2_burns_1 19 rfl rfl)
theorem dX2_burns_44 : decode cX2_burns 44 = .ok (.iconst 0, 1) := dk_3 (dk_at dksX2_burns_1 22 rfl rfl)
theorem dX2_burns_45 : decode cX2_burns 45 = .ok (.iastore, 1) := dk_79 (dk_at dksX2_burns_1 23 rfl rfl)
theorem dX2_burns_46 : decode cX2_burns 46 = .ok (.iload_n 2, 1) := dk_28 (dk_at dksX2_burns_2 0 rfl rfl)
theorem dX2_burns_47 : decode cX2_burns 47 = .ok (.iload 4, 2) := dk_21 4 (dk_at dksX2_burns_2 1 rfl rfl)
theorem dX2_burns_49 : decode cX2_burns 49 = .ok (.ifCond .le 13, 3) := dk_158 0 13 (dk_at dksX2_burns_2 3 rfl rfl)
theorem dX2_burns_52 : decode cX2_burns 52 = .ok (.iload 4, 2) := dk_21 4 (dk_at dksX2_burns_2 6 rfl rfl)
theorem dX2_burns_54 : decode cX2_burns 54 = .ok (.iload_n 1, 1) := dk_27 (dk_at dksX2_burns_2 8 rfl rfl)
theorem dX2_burns_55 : decode cX2_burns 55 = .ok (.if_icmp .gt 7, 3) := dk_163 0 7 (dk_at dksX2_burns_2 9 rfl rfl)
theorem dX2_burns_58 : decode cX2_burns 58 = .ok (.iconst 1, 1) := dk_4 (dk_at dksX2_burns_2 12 rfl rfl)
theorem dX2_burns_59 : decode cX2_burns 59 = .ok (.goto 4, 3) := dk_167 0 4 (dk_at dksX2_burns_2 13 rfl rfl)
theorem dX2_burns_62 : decode cX2_burns 62 = .ok (.iconst 0, 1) := dk_3 (dk_at dksX2_burns_2 16 rfl rfl)
theorem dX2_burns_63 : decode cX2_burns 63 = .ok (.iadd, 1) := dk_96 (dk_at dksX2_burns_2 17 rfl rfl)
theorem dX2_burns_64 : decode cX2_burns 64 = .ok (.istore_n 2, 1) := dk_61 (dk_at dksX2_burns_2 18 rfl rfl)
theorem dX2_burns_65 : decode cX2_burns 65 = .ok (.iinc 3 1, 3) := dk_132 3 1 (dk_at dksX2_burns_2 19 rfl rfl)
theorem dX2_burns_68 : decode cX2_burns 68 = .ok (.goto (-64), 3) := dk_167 255 192 (dk_at dksX2_burns_3 0 rfl rfl)
theorem dX2_burns_71 : decode cX2_burns 71 = .ok (.aload_n 0, 1) := dk_42 (dk_at dksX2_burns_3 3 rfl rfl)
theorem dX2_burns_72 : decode cX2_burns 72 = .ok (.getfield 7, 3) := dk_180 0 7 (dk_at dksX2_burns_3 4 rfl rfl)
theorem dX2_burns_75 : decode cX2_burns 75 = .ok (.iconst 3, 1) := dk_6 (dk_at dksX2_burns_3 7 rfl rfl)
theorem dX2_burns_76 : decode cX2_burns 76 = .ok (.dup2, 1) := dk_92 (dk_at dksX2_burns_3 8 rfl rfl)
theorem dX2_burns_77 : decode cX2_burns 77 = .ok (.iaload, 1) := dk_46 (dk_at dksX2_burns_3 9 rfl rfl)
theorem dX2_burns_78 : decode cX2_burns 78 = .ok (.iload_n 1, 1) := dk_27 (dk_at dksX2_burns_3 10 rfl rfl)
theorem dX2_burns_79 : decode cX2_burns 79 = .ok (.iadd, 1) := dk_96 (dk_at dksX2_burns_3 11 rfl rfl)
theorem dX2_burns_80 : decode cX2_burns 80 = .ok (.iastore, 1) := dk_79 (dk_at dksX2_burns_3 12 rfl rfl)
theorem dX2_burns_81 : decode cX2_burns 81 = .ok (.iload_n 2, 1) := dk_28 (dk_at dksX2_burns_3 13 rfl rfl)
theorem dX2_burns_82 : decode cX2_burns 82 = .ok (.ireturn, 1) := dk_172 (dk_at dksX2_burns_3 14 rfl rfl)
abbrev cX2_behind : ByteArray := prog_11_method_20_code
def yX2_behind : MethodName := ⟨RX2, "behind", "(II)I"⟩
def dkwX2_behind_1 : List UInt8 := [182, 0, 67, 172]
abbrev dktX2_behind_1 : List UInt8 := dkwX2_behind_1 ++ []
def dkwX2_behind_0 : List UInt8 := [42, 28, 3, 182, 0, 67, 27, 160, 0, 12, 42, 28, 4, 182, 0, 67, 167, 0, 9, 42, 28, 3]
abbrev dktX2_behind_0 : List UInt8 := dkwX2_behind_0 ++ dktX2_behind_1
theorem dksX2_behind_0 : cX2_behind.data.toList.drop 0 = dktX2_behind_0 := by decide +kernel
theorem dksX2_behind_1 : cX2_behind.data.toList.drop 22 = dktX2_behind_1 := dk_seg dksX2_behind_0 22 rfl rfl
theorem dX2_behind_0 : decode cX2_behind 0 = .ok (.aload_n 0, 1) := dk_42 (dk_at dksX2_behind_0 0 rfl rfl)
theorem dX2_behind_1 : decode cX2_behind 1 = .ok (.iload_n 2, 1) := dk_28 (dk_at dksX2_behind_0 1 rfl rfl)
theorem dX2_behind_2 : decode cX2_behind 2 = .ok (.iconst 0, 1) := dk_3 (dk_at dksX2_behind_0 2 rfl rfl)
theorem dX2_behind_3 : decode cX2_behind 3 = .ok (.invokevirtual 67, 3) := dk_182 0 67 (dk_at dksX2_behind_0 3 rfl rfl)
theorem dX2_behind_6 : decode cX2_behind 6 = .ok (.iload_n 1, 1) := dk_27 (dk_at dksX2_behind_0 6 rfl rfl)
theorem dX2_behind_7 : decode cX2_behind 7 = .ok (.if_icmp .ne 12, 3) := dk_160 0 12 (dk_at dksX2_behind_0 7 rfl rfl)
theorem dX2_behind_10 : decode cX2_behind 10 = .ok (.aload_n 0, 1) := dk_42 (dk_at dksX2_behind_0 10 rfl rfl)
theorem dX2_behind_11 : decode cX2_behind 11 = .ok (.iload_n 2, 1) := dk_28 (dk_at dksX2_behind_0 11 rfl rfl)
theorem dX2_behind_12 : decode cX2_behind 12 = .ok (.iconst 1, 1) := dk_4 (dk_at dksX2_behind_0 12 rfl rfl)
theorem dX2_behind_13 : decode cX2_behind 13 = .ok (.invokevirtual 67, 3) := dk_182 0 67 (dk_at dksX2_behind_0 13 rfl rfl)
theorem dX2_behind_16 : decode cX2_behind 16 = .ok (.goto 9, 3) := dk_167 0 9 (dk_at dksX2_behind_0 16 rfl rfl)
theorem dX2_behind_19 : decode cX2_behind 19 = .ok (.aload_n 0, 1) := dk_42 (dk_at dksX2_behind_0 19 rfl rfl)
theorem dX2_behind_20 : decode cX2_behind 20 = .ok (.iload_n 2, 1) := dk_28 (dk_at dksX2_behind_0 20 rfl rfl)
theorem dX2_behind_21 : decode cX2_behind 21 = .ok (.iconst 0, 1) := dk_3 (dk_at dksX2_behind_0 21 rfl rfl)
theorem dX2_behind_22 : decode cX2_behind 22 = .ok (.invokevirtual 67, 3) := dk_182 0 67 (dk_at dksX2_behind_1 0 rfl rfl)
theorem dX2_behind_25 : decode cX2_behind 25 = .ok (.ireturn, 1) := dk_172 (dk_at dksX2_behind_1 3 rfl rfl)
abbrev cX2_rest : ByteArray := prog_11_method_25_code
def yX2_rest : MethodName := ⟨RX2, "rest", "(I)I"⟩
def dkwX2_rest_1 : List UInt8 := [16, 11, 3, 182, 0, 59, 172, 42, 42, 180, 0, 7, 182, 0, 63, 42, 27, 182, 0, 103, 172]
abbrev dktX2_rest_1 : List UInt8 := dkwX2_rest_1 ++ []
def dkwX2_rest_0 : List UInt8 := [27, 4, 16, 50, 184, 0, 55, 154, 0, 7, 17, 252, 12, 172, 42, 180, 0, 7, 3, 46, 154, 0, 11, 42]
abbrev dktX2_rest_0 : List UInt8 := dkwX2_rest_0 ++ dktX2_rest_1
theorem dksX2_rest_0 : cX2_rest.data.toList.drop 0 = dktX2_rest_0 := by decide +kernel
theorem dksX2_rest_1 : cX2_rest.data.toList.drop 24 = dktX2_rest_1 := dk_seg dksX2_rest_0 24 rfl rfl
theorem dX2_rest_0 : decode cX2_rest 0 = .ok (.iload_n 1, 1) := dk_27 (dk_at dksX2_rest_0 0 rfl rfl)
theorem dX2_rest_1 : decode cX2_rest 1 = .ok (.iconst 1, 1) := dk_4 (dk_at dksX2_rest_0 1 rfl rfl)
theorem dX2_rest_2 : decode cX2_rest 2 = .ok (.bipush 50, 2) := dk_16 50 (dk_at dksX2_rest_0 2 rfl rfl)
theorem dX2_rest_4 : decode cX2_rest 4 = .ok (.invokestatic 55, 3) := dk_184 0 55 (dk_at dksX2_rest_0 4 rfl rfl)
theorem dX2_rest_7 : decode cX2_rest 7 = .ok (.ifCond .ne 7, 3) := dk_154 0 7 (dk_at dksX2_rest_0 7 rfl rfl)
theorem dX2_rest_10 : decode cX2_rest 10 = .ok (.sipush (-1012), 3) := dk_17 252 12 (dk_at dksX2_rest_0 10 rfl rfl)
theorem dX2_rest_13 : decode cX2_rest 13 = .ok (.ireturn, 1) := dk_172 (dk_at dksX2_rest_0 13 rfl rfl)
theorem dX2_rest_14 : decode cX2_rest 14 = .ok (.aload_n 0, 1) := dk_42 (dk_at dksX2_rest_0 14 rfl rfl)
theorem dX2_rest_15 : decode cX2_rest 15 = .ok (.getfield 7, 3) := dk_180 0 7 (dk_at dksX2_rest_0 15 rfl rfl)
theorem dX2_rest_18 : decode cX2_rest 18 = .ok (.iconst 0, 1) := dk_3 (dk_at dksX2_rest_0 18 rfl rfl)
theorem dX2_rest_19 : decode cX2_rest 19 = .ok (.iaload, 1) := dk_46 (dk_at dksX2_rest_0 19 rfl rfl)
theorem dX2_rest_20 : decode cX2_rest 20 = .ok (.ifCond .ne 11, 3) := dk_154 0 11 (dk_at dksX2_rest_0 20 rfl rfl)
theorem dX2_rest_23 : decode cX2_rest 23 = .ok (.aload_n 0, 1) := dk_42 (dk_at dksX2_rest_0 23 rfl rfl)
theorem dX2_rest_24 : decode cX2_rest 24 = .ok (.bipush 11, 2) := dk_16 11 (dk_at dksX2_rest_1 0 rfl rfl)
theorem dX2_rest_26 : decode cX2_rest 26 = .ok (.iconst 0, 1) := dk_3 (dk_at dksX2_rest_1 2 rfl rfl)
theorem dX2_rest_27 : decode cX2_rest 27 = .ok (.invokevirtual 59, 3) := dk_182 0 59 (dk_at dksX2_rest_1 3 rfl rfl)
theorem dX2_rest_30 : decode cX2_rest 30 = .ok (.ireturn, 1) := dk_172 (dk_at dksX2_rest_1 6 rfl rfl)
theorem dX2_rest_31 : decode cX2_rest 31 = .ok (.aload_n 0, 1) := dk_42 (dk_at dksX2_rest_1 7 rfl rfl)
theorem dX2_rest_32 : decode cX2_rest 32 = .ok (.aload_n 0, 1) := dk_42 (dk_at dksX2_rest_1 8 rfl rfl)
theorem dX2_rest_33 : decode cX2_rest 33 = .ok (.getfield 7, 3) := dk_180 0 7 (dk_at dksX2_rest_1 9 rfl rfl)
theorem dX2_rest_36 : decode cX2_rest 36 = .ok (.invokevirtual 63, 3) := dk_182 0 63 (dk_at dksX2_rest_1 12 rfl rfl)
theorem dX2_rest_39 : decode cX2_rest 39 = .ok (.aload_n 0, 1) := dk_42 (dk_at dksX2_rest_1 15 rfl rfl)
theorem dX2_rest_40 : decode cX2_rest 40 = .ok (.iload_n 1, 1) := dk_27 (dk_at dksX2_rest_1 16 rfl rfl)
theorem dX2_rest_41 : decode cX2_rest 41 = .ok (.invokevirtual 103, 3) := dk_182 0 103 (dk_at dksX2_rest_1 17 rfl rfl)
theorem dX2_rest_44 : decode cX2_rest 44 = .ok (.ireturn, 1) := dk_172 (dk_at dksX2_rest_1 20 rfl rfl)
abbrev cX2_take : ByteArray := prog_11_method_26_code
def yX2_take : MethodName := ⟨RX2, "take", "(I)I"⟩
def dkwX2_take_5 : List UInt8 := [180, 0, 7, 7, 27, 96, 46, 172]
abbrev dktX2_take_5 : List UInt8 := dkwX2_take_5 ++ []
def dkwX2_take_4 : List UInt8 := [42, 180, 0, 7, 28, 92, 46, 4, 100, 79, 42, 180, 0, 7, 7, 27, 96, 92, 46, 4, 96, 79, 42]
abbrev dktX2_take_4 : List UInt8 := dkwX2_take_4 ++ dktX2_take_5
def dkwX2_take_3 : List UInt8 := [96, 46, 16, 9, 160, 0, 12, 42, 16, 10, 16, 10, 182, 0, 59, 172, 42, 42, 180, 0, 7, 182, 0, 63]
abbrev dktX2_take_3 : List UInt8 := dkwX2_take_3 ++ dktX2_take_4
def dkwX2_take_2 : List UInt8 := [28, 46, 154, 0, 16, 42, 16, 7, 42, 180, 0, 7, 5, 46, 182, 0, 59, 172, 42, 180, 0, 7, 7, 27]
abbrev dktX2_take_2 : List UInt8 := dkwX2_take_2 ++ dktX2_take_3
def dkwX2_take_1 : List UInt8 := [182, 0, 59, 172, 16, 10, 7, 42, 180, 0, 7, 5, 46, 104, 96, 4, 96, 27, 96, 61, 42, 180, 0, 7]
abbrev dktX2_take_1 : List UInt8 := dkwX2_take_1 ++ dktX2_take_2
def dkwX2_take_0 : List UInt8 := [27, 184, 0, 83, 154, 0, 7, 17, 252, 12, 172, 42, 180, 0, 7, 3, 46, 154, 0, 11, 42, 16, 11, 3]
abbrev dktX2_take_0 : List UInt8 := dkwX2_take_0 ++ dktX2_take_1
theorem dksX2_take_0 : cX2_take.data.toList.drop 0 = dktX2_take_0 := by decide +kernel
theorem dksX2_take_1 : cX2_take.data.toList.drop 24 = dktX2_take_1 := dk_seg dksX2_take_0 24 rfl rfl
theorem dksX2_take_2 : cX2_take.data.toList.drop 48 = dktX2_take_2 := dk_seg dksX2_take_1 24 rfl rfl
theorem dksX2_take_3 : cX2_take.data.toList.drop 72 = dktX2_take_3 := dk_seg dksX2_take_2 24 rfl rfl
theorem dksX2_take_4 : cX2_take.data.toList.drop 96 = dktX2_take_4 := dk_seg dksX2_take_3 24 rfl rfl
theorem dksX2_take_5 : cX2_take.data.toList.drop 119 = dktX2_take_5 := dk_seg dksX2_take_4 23 rfl rfl
theorem dX2_take_0 : decode cX2_take 0 = .ok (.iload_n 1, 1) := dk_27 (dk_at dksX2_take_0 0 rfl rfl)
theorem dX2_take_1 : decode cX2_take 1 = .ok (.invokestatic 83, 3) := dk_184 0 83 (dk_at dksX2_take_0 1 rfl rfl)
theorem dX2_take_4 : decode cX2_take 4 = .ok (.ifCond .ne 7, 3) := dk_154 0 7 (dk_at dksX2_take_0 4 rfl rfl)
theorem dX2_take_7 : decode cX2_take 7 = .ok (.sipush (-1012), 3) := dk_17 252 12 (dk_at dksX2_take_0 7 rfl rfl)
theorem dX2_take_10 : decode cX2_take 10 = .ok (.ireturn, 1) := dk_172 (dk_at dksX2_take_0 10 rfl rfl)
theorem dX2_take_11 : decode cX2_take 11 = .ok (.aload_n 0, 1) := dk_42 (dk_at dksX2_take_0 11 rfl rfl)
theorem dX2_take_12 : decode cX2_take 12 = .ok (.getfield 7, 3) := dk_180 0 7 (dk_at dksX2_take_0 12 rfl rfl)
theorem dX2_take_15 : decode cX2_take 15 = .ok (.iconst 0, 1) := dk_3 (dk_at dksX2_take_0 15 rfl rfl)
theorem dX2_take_16 : decode cX2_take 16 = .ok (.iaload, 1) := dk_46 (dk_at dksX2_take_0 16 rfl rfl)
theorem dX2_take_17 : decode cX2_take 17 = .ok (.ifCond .ne 11, 3) := dk_154 0 11 (dk_at dksX2_take_0 17 rfl rfl)
theorem dX2_take_20 : decode cX2_take 20 = .ok (.aload_n 0, 1) := dk_42 (dk_at dksX2_take_0 20 rfl rfl)
theorem dX2_take_21 : decode cX2_take 21 = .ok (.bipush 11, 2) := dk_16 11 (dk_at dksX2_take_0 21 rfl rfl)
theorem dX2_take_23 : decode cX2_take 23 = .ok (.iconst 0, 1) := dk_3 (dk_at dksX2_take_0 23 rfl rfl)
theorem dX2_take_24 : decode cX2_take 24 = .ok (.invokevirtual 59, 3) := dk_182 0 59 (dk_at dksX2_take_1 0 rfl rfl)
theorem dX2_take_27 : decode cX2_take 27 = .ok (.ireturn, 1) := dk_172 (dk_at dksX2_take_1 3 rfl rfl)
theorem dX2_take_28 : decode cX2_take 28 = .ok (.bipush 10, 2) := dk_16 10 (dk_at dksX2_take_1 4 rfl rfl)
theorem dX2_take_30 : decode cX2_take 30 = .ok (.iconst 4, 1) := dk_7 (dk_at dksX2_take_1 6 rfl rfl)
theorem dX2_take_31 : decode cX2_take 31 = .ok (.aload_n 0, 1) := dk_42 (dk_at dksX2_take_1 7 rfl rfl)
theorem dX2_take_32 : decode cX2_take 32 = .ok (.getfield 7, 3) := dk_180 0 7 (dk_at dksX2_take_1 8 rfl rfl)
theorem dX2_take_35 : decode cX2_take 35 = .ok (.iconst 2, 1) := dk_5 (dk_at dksX2_take_1 11 rfl rfl)
theorem dX2_take_36 : decode cX2_take 36 = .ok (.iaload, 1) := dk_46 (dk_at dksX2_take_1 12 rfl rfl)
theorem dX2_take_37 : decode cX2_take 37 = .ok (.imul, 1) := dk_104 (dk_at dksX2_take_1 13 rfl rfl)
theorem dX2_take_38 : decode cX2_take 38 = .ok (.iadd, 1) := dk_96 (dk_at dksX2_take_1 14 rfl rfl)
theorem dX2_take_39 : decode cX2_take 39 = .ok (.iconst 1, 1) := dk_4 (dk_at dksX2_take_1 15 rfl rfl)
theorem dX2_take_40 : decode cX2_take 40 = .ok (.iadd, 1) := dk_96 (dk_at dksX2_take_1 16 rfl rfl)
theorem dX2_take_41 : decode cX2_take 41 = .ok (.iload_n 1, 1) := dk_27 (dk_at dksX2_take_1 17 rfl rfl)
theorem dX2_take_42 : decode cX2_take 42 = .ok (.iadd, 1) := dk_96 (dk_at dksX2_take_1 18 rfl rfl)
theorem dX2_take_43 : decode cX2_take 43 = .ok (.istore_n 2, 1) := dk_61 (dk_at dksX2_take_1 19 rfl rfl)
theorem dX2_take_44 : decode cX2_take 44 = .ok (.aload_n 0, 1) := dk_42 (dk_at dksX2_take_1 20 rfl rfl)
theorem dX2_take_45 : decode cX2_take 45 = .ok (.getfield 7, 3) := dk_180 0 7 (dk_at dksX2_take_1 21 rfl rfl)
theorem dX2_take_48 : decode cX2_take 48 = .ok (.iload_n 2, 1) := dk_28 (dk_at dksX2_take_2 0 rfl rfl)
theorem dX2_take_49 : decode cX2_take 49 = .ok (.iaload, 1) := dk_46 (dk_at dksX2_take_2 1 rfl rfl)
theorem dX2_take_50 : decode cX2_take 50 = .ok (.ifCond .ne 16, 3) := dk_154 0 16 (dk_at dksX2_take_2 2 rfl rfl)
theorem dX2_take_53 : decode cX2_take 53 = .ok (.aload_n 0, 1) := dk_42 (dk_at dksX2_take_2 5 rfl rfl)
theorem dX2_take_54 : decode cX2_take 54 = .ok (.bipush 7, 2) := dk_16 7 (dk_at dksX2_take_2 6 rfl rfl)
theorem dX2_take_56 : decode cX2_take 56 = .ok (.aload_n 0, 1) := dk_42 (dk_at dksX2_take_2 8 rfl rfl)
theorem dX2_take_57 : decode cX2_take 57 = .ok (.getfield 7, 3) := dk_180 0 7 (dk_at dksX2_take_2 9 rfl rfl)
theorem dX2_take_60 : decode cX2_take 60 = .ok (.iconst 2, 1) := dk_5 (dk_at dksX2_take_2 12 rfl rfl)
theorem dX2_take_61 : decode cX2_take 61 = .ok (.iaload, 1) := dk_46 (dk_at dksX2_take_2 13 rfl rfl)
theorem dX2_take_62 : decode cX2_take 62 = .ok (.invokevirtual 59, 3) := dk_182 0 59 (dk_at dksX2_take_2 14 rfl rfl)
theorem dX2_take_65 : decode cX2_take 65 = .ok (.ireturn, 1) := dk_172 (dk_at dksX2_take_2 17 rfl rfl)
theorem dX2_take_66 : decode cX2_take 66 = .ok (.aload_n 0, 1) := dk_42 (dk_at dksX2_take_2 18 rfl rfl)
theorem dX2_take_67 : decode cX2_take 67 = .ok (.getfield 7, 3) := dk_180 0 7 (dk_at dksX2_take_2 19 rfl rfl)
theorem dX2_take_70 : decode cX2_take 70 = .ok (.iconst 4, 1) := dk_7 (dk_at dksX2_take_2 22 rfl rfl)
theorem dX2_take_71 : decode cX2_take 71 = .ok (.iload_n 1, 1) := dk_27 (dk_at dksX2_take_2 23 rfl rfl)
theorem dX2_take_72 : decode cX2_take 72 = .ok (.iadd, 1) := dk_96 (dk_at dksX2_take_3 0 rfl rfl)
theorem dX2_take_73 : decode cX2_take 73 = .ok (.iaload, 1) := dk_46 (dk_at dksX2_take_3 1 rfl rfl)
theorem dX2_take_74 : decode cX2_take 74 = .ok (.bipush 9, 2) := dk_16 9 (dk_at dksX2_take_3 2 rfl rfl)
theorem dX2_take_76 : decode cX2_take 76 = .ok (.if_icmp .ne 12, 3) := dk_160 0 12 (dk_at dksX2_take_3 4 rfl rfl)
theorem dX2_take_79 : decode cX2_take 79 = .ok (.aload_n 0, 1) := dk_42 (dk_at dksX2_take_3 7 rfl rfl)
theorem dX2_take_80 : decode cX2_take 80 = .ok (.bipush 10, 2) := dk_16 10 (dk_at dksX2_take_3 8 rfl rfl)
theorem dX2_take_82 : decode cX2_take 82 = .ok (.bipush 10, 2) := dk_16 10 (dk_at dksX2_take_3 10 rfl rfl)
theorem dX2_take_84 : decode cX2_take 84 = .ok (.invokevirtual 59, 3) := dk_182 0 59 (dk_at dksX2_take_3 12 rfl rfl)
theorem dX2_take_87 : decode cX2_take 87 = .ok (.ireturn, 1) := dk_172 (dk_at dksX2_take_3 15 rfl rfl)
theorem dX2_take_88 : decode cX2_take 88 = .ok (.aload_n 0, 1) := dk_42 (dk_at dksX2_take_3 16 rfl rfl)
theorem dX2_take_89 : decode cX2_take 89 = .ok (.aload_n 0, 1) := dk_42 (dk_at dksX2_take_3 17 rfl rfl)
theorem dX2_take_90 : decode cX2_take 90 = .ok (.getfield 7, 3) := dk_180 0 7 (dk_at dksX2_take_3 18 rfl rfl)
theorem dX2_take_93 : decode cX2_take 93 = .ok (.invokevirtual 63, 3) := dk_182 0 63 (dk_at dksX2_take_3 21 rfl rfl)
theorem dX2_take_96 : decode cX2_take 96 = .ok (.aload_n 0, 1) := dk_42 (dk_at dksX2_take_4 0 rfl rfl)
theorem dX2_take_97 : decode cX2_take 97 = .ok (.getfield 7, 3) := dk_180 0 7 (dk_at dksX2_take_4 1 rfl rfl)
theorem dX2_take_100 : decode cX2_take 100 = .ok (.iload_n 2, 1) := dk_28 (dk_at dksX2_take_4 4 rfl rfl)
theorem dX2_take_101 : decode cX2_take 101 = .ok (.dup2, 1) := dk_92 (dk_at dksX2_take_4 5 rfl rfl)
theorem dX2_take_102 : decode cX2_take 102 = .ok (.iaload, 1) := dk_46 (dk_at dksX2_take_4 6 rfl rfl)
theorem dX2_take_103 : decode cX2_take 103 = .ok (.iconst 1, 1) := dk_4 (dk_at dksX2_take_4 7 rfl rfl)
theorem dX2_take_104 : decode cX2_take 104 = .ok (.isub, 1) := dk_100 (dk_at dksX2_take_4 8 rfl rfl)
theorem dX2_take_105 : decode cX2_take 105 = .ok (.iastore, 1) := dk_79 (dk_at dksX2_take_4 9 rfl rfl)
theorem dX2_take_106 : decode cX2_take 106 = .ok (.aload_n 0, 1) := dk_42 (dk_at dksX2_take_4 10 rfl rfl)
theorem dX2_take_107 : decode cX2_take 107 = .ok (.getfield 7, 3) := dk_180 0 7 (dk_at dksX2_take_4 11 rfl rfl)
theorem dX2_take_110 : decode cX2_take 110 = .ok (.iconst 4, 1) := dk_7 (dk_at dksX2_take_4 14 rfl rfl)
theorem dX2_take_111 : decode cX2_take 111 = .ok (.iload_n 1, 1) := dk_27 (dk_at dksX2_take_4 15 rfl rfl)
theorem dX2_take_112 : decode cX2_take 112 = .ok (.iadd, 1) := dk_96 (dk_at dksX2_take_4 16 rfl rfl)
theorem dX2_take_113 : decode cX2_take 113 = .ok (.dup2, 1) := dk_92 (dk_at dksX2_take_4 17 rfl rfl)
theorem dX2_take_114 : decode cX2_take 114 = .ok (.iaload, 1) := dk_46 (dk_at dksX2_take_4 18 rfl rfl)
theorem dX2_take_115 : decode cX2_take 115 = .ok (.iconst 1, 1) := dk_4 (dk_at dksX2_take_4 19 rfl rfl)
theorem dX2_take_116 : decode cX2_take 116 = .ok (.iadd, 1) := dk_96 (dk_at dksX2_take_4 20 rfl rfl)
theorem dX2_take_117 : decode cX2_take 117 = .ok (.iastore, 1) := dk_79 (dk_at dksX2_take_4 21 rfl rfl)
theorem dX2_take_118 : decode cX2_take 118 = .ok (.aload_n 0, 1) := dk_42 (dk_at dksX2_take_4 22 rfl rfl)
theorem dX2_take_119 : decode cX2_take 119 = .ok (.getfield 7, 3) := dk_180 0 7 (dk_at dksX2_take_5 0 rfl rfl)
theorem dX2_take_122 : decode cX2_take 122 = .ok (.iconst 4, 1) := dk_7 (dk_at dksX2_take_5 3 rfl rfl)
theorem dX2_take_123 : decode cX2_take 123 = .ok (.iload_n 1, 1) := dk_27 (dk_at dksX2_take_5 4 rfl rfl)
theorem dX2_take_124 : decode cX2_take 124 = .ok (.iadd, 1) := dk_96 (dk_at dksX2_take_5 5 rfl rfl)
theorem dX2_take_125 : decode cX2_take 125 = .ok (.iaload, 1) := dk_46 (dk_at dksX2_take_5 6 rfl rfl)
theorem dX2_take_126 : decode cX2_take 126 = .ok (.ireturn, 1) := dk_172 (dk_at dksX2_take_5 7 rfl rfl)
abbrev cX2_open : ByteArray := prog_11_method_27_code
def yX2_open : MethodName := ⟨RX2, "open", "(I)I"⟩
def dkwX2_open_6 : List UInt8 := [46, 172]
abbrev dktX2_open_6 : List UInt8 := dkwX2_open_6 ++ []
def dkwX2_open_5 : List UInt8 := [96, 79, 42, 180, 0, 7, 16, 50, 16, 6, 27, 104, 96, 7, 96, 3, 79, 42, 180, 0, 7, 7, 28, 96]
abbrev dktX2_open_5 : List UInt8 := dkwX2_open_5 ++ dktX2_open_6
def dkwX2_open_4 : List UInt8 := [182, 0, 63, 42, 180, 0, 7, 7, 28, 96, 92, 46, 5, 100, 79, 42, 180, 0, 7, 16, 8, 92, 46, 5]
abbrev dktX2_open_4 : List UInt8 := dkwX2_open_4 ++ dktX2_open_5
def dkwX2_open_3 : List UInt8 := [162, 0, 18, 42, 16, 8, 42, 180, 0, 7, 7, 28, 96, 46, 182, 0, 59, 172, 42, 42, 180, 0, 7]
abbrev dktX2_open_3 : List UInt8 := dkwX2_open_3 ++ dktX2_open_4
def dkwX2_open_2 : List UInt8 := [42, 16, 9, 27, 182, 0, 59, 172, 42, 27, 6, 182, 0, 67, 61, 42, 180, 0, 7, 7, 28, 96, 46, 5]
abbrev dktX2_open_2 : List UInt8 := dkwX2_open_2 ++ dktX2_open_3
def dkwX2_open_1 : List UInt8 := [154, 0, 15, 42, 7, 42, 180, 0, 7, 5, 46, 182, 0, 59, 172, 42, 27, 7, 182, 0, 67, 154, 0, 11]
abbrev dktX2_open_1 : List UInt8 := dkwX2_open_1 ++ dktX2_open_2
def dkwX2_open_0 : List UInt8 := [42, 27, 182, 0, 94, 154, 0, 7, 17, 252, 13, 172, 42, 42, 180, 0, 7, 5, 46, 27, 182, 0, 90]
abbrev dktX2_open_0 : List UInt8 := dkwX2_open_0 ++ dktX2_open_1
theorem dksX2_open_0 : cX2_open.data.toList.drop 0 = dktX2_open_0 := by decide +kernel
theorem dksX2_open_1 : cX2_open.data.toList.drop 23 = dktX2_open_1 := dk_seg dksX2_open_0 23 rfl rfl
theorem dksX2_open_2 : cX2_open.data.toList.drop 47 = dktX2_open_2 := dk_seg dksX2_open_1 24 rfl rfl
theorem dksX2_open_3 : cX2_open.data.toList.drop 71 = dktX2_open_3 := dk_seg dksX2_open_2 24 rfl rfl
theorem dksX2_open_4 : cX2_open.data.toList.drop 94 = dktX2_open_4 := dk_seg dksX2_open_3 23 rfl rfl
theorem dksX2_open_5 : cX2_open.data.toList.drop 118 = dktX2_open_5 := dk_seg dksX2_open_4 24 rfl rfl
theorem dksX2_open_6 : cX2_open.data.toList.drop 142 = dktX2_open_6 := dk_seg dksX2_open_5 24 rfl rfl
theorem dX2_open_0 : decode cX2_open 0 = .ok (.aload_n 0, 1) := dk_42 (dk_at dksX2_open_0 0 rfl rfl)
theorem dX2_open_1 : decode cX2_open 1 = .ok (.iload_n 1, 1) := dk_27 (dk_at dksX2_open_0 1 rfl rfl)
theorem dX2_open_2 : decode cX2_open 2 = .ok (.invokevirtual 94, 3) := dk_182 0 94 (dk_at dksX2_open_0 2 rfl rfl)
theorem dX2_open_5 : decode cX2_open 5 = .ok (.ifCond .ne 7, 3) := dk_154 0 7 (dk_at dksX2_open_0 5 rfl rfl)
theorem dX2_open_8 : decode cX2_open 8 = .ok (.sipush (-1011), 3) := dk_17 252 13 (dk_at dksX2_open_0 8 rfl rfl)
theorem dX2_open_11 : decode cX2_open 11 = .ok (.ireturn, 1) := dk_172 (dk_at dksX2_open_0 11 rfl rfl)
theorem dX2_open_12 : decode cX2_open 12 = .ok (.aload_n 0, 1) := dk_42 (dk_at dksX2_open_0 12 rfl rfl)
theorem dX2_open_13 : decode cX2_open 13 = .ok (.aload_n 0, 1) := dk_42 (dk_at dksX2_open_0 13 rfl rfl)
theorem dX2_open_14 : decode cX2_open 14 = .ok (.getfield 7, 3) := dk_180 0 7 (dk_at dksX2_open_0 14 rfl rfl)
theorem dX2_open_17 : decode cX2_open 17 = .ok (.iconst 2, 1) := dk_5 (dk_at dksX2_open_0 17 rfl rfl)
theorem dX2_open_18 : decode cX2_open 18 = .ok (.iaload, 1) := dk_46 (dk_at dksX2_open_0 18 rfl rfl)
theorem dX2_open_19 : decode cX2_open 19 = .ok (.iload_n 1, 1) := dk_27 (dk_at dksX2_open_0 19 rfl rfl)
theorem dX2_open_20 : decode cX2_open 20 = .ok (.invokevirtual 90, 3) := dk_182 0 90 (dk_at dksX2_open_0 20 rfl rfl)
theorem dX2_open_23 : decode cX2_open 23 = .ok (.ifCond .ne 15, 3) := dk_154 0 15 (dk_at dksX2_open_1 0 rfl rfl)
theorem dX2_open_26 : decode cX2_open 26 = .ok (.aload_n 0, 1) := dk_42 (dk_at dksX2_open_1 3 rfl rfl)
theorem dX2_open_27 : decode cX2_open 27 = .ok (.iconst 4, 1) := dk_7 (dk_at dksX2_open_1 4 rfl rfl)
theorem dX2_open_28 : decode cX2_open 28 = .ok (.aload_n 0, 1) := dk_42 (dk_at dksX2_open_1 5 rfl rfl)
theorem dX2_open_29 : decode cX2_open 29 = .ok (.getfield 7, 3) := dk_180 0 7 (dk_at dksX2_open_1 6 rfl rfl)
theorem dX2_open_32 : decode cX2_open 32 = .ok (.iconst 2, 1) := dk_5 (dk_at dksX2_open_1 9 rfl rfl)
theorem dX2_open_33 : decode cX2_open 33 = .ok (.iaload, 1) := dk_46 (dk_at dksX2_open_1 10 rfl rfl)
theorem dX2_open_34 : decode cX2_open 34 = .ok (.invokevirtual 59, 3) := dk_182 0 59 (dk_at dksX2_open_1 11 rfl rfl)
theorem dX2_open_37 : decode cX2_open 37 = .ok (.ireturn, 1) := dk_172 (dk_at dksX2_open_1 14 rfl rfl)
theorem dX2_open_38 : decode cX2_open 38 = .ok (.aload_n 0, 1) := dk_42 (dk_at dksX2_open_1 15 rfl rfl)
theorem dX2_open_39 : decode cX2_open 39 = .ok (.iload_n 1, 1) := dk_27 (dk_at dksX2_open_1 16 rfl rfl)
theorem dX2_open_40 : decode cX2_open 40 = .ok (.iconst 4, 1) := dk_7 (dk_at dksX2_open_1 17 rfl rfl)
theorem dX2_open_41 : decode cX2_open 41 = .ok (.invokevirtual 67, 3) := dk_182 0 67 (dk_at dksX2_open_1 18 rfl rfl)
theorem dX2_open_44 : decode cX2_open 44 = .ok (.ifCond .ne 11, 3) := dk_154 0 11 (dk_at dksX2_open_1 21 rfl rfl)
theorem dX2_open_47 : decode cX2_open 47 = .ok (.aload_n 0, 1) := dk_42 (dk_at dksX2_open_2 0 rfl rfl)
theorem dX2_open_48 : decode cX2_open 48 = .ok (.bipush 9, 2) := dk_16 9 (dk_at dksX2_open_2 1 rfl rfl)
theorem dX2_open_50 : decode cX2_open 50 = .ok (.iload_n 1, 1) := dk_27 (dk_at dksX2_open_2 3 rfl rfl)
theorem dX2_open_51 : decode cX2_open 51 = .ok (.invokevirtual 59, 3) := dk_182 0 59 (dk_at dksX2_open_2 4 rfl rfl)
theorem dX2_open_54 : decode cX2_open 54 = .ok (.ireturn, 1) := dk_172 (dk_at dksX2_open_2 7 rfl rfl)
theorem dX2_open_55 : decode cX2_open 55 = .ok (.aload_n 0, 1) := dk_42 (dk_at dksX2_open_2 8 rfl rfl)
theorem dX2_open_56 : decode cX2_open 56 = .ok (.iload_n 1, 1) := dk_27 (dk_at dksX2_open_2 9 rfl rfl)
theorem dX2_open_57 : decode cX2_open 57 = .ok (.iconst 3, 1) := dk_6 (dk_at dksX2_open_2 10 rfl rfl)
theorem dX2_open_58 : decode cX2_open 58 = .ok (.invokevirtual 67, 3) := dk_182 0 67 (dk_at dksX2_open_2 11 rfl rfl)
theorem dX2_open_61 : decode cX2_open 61 = .ok (.istore_n 2, 1) := dk_61 (dk_at dksX2_open_2 14 rfl rfl)
theorem dX2_open_62 : decode cX2_open 62 = .ok (.aload_n 0, 1) := dk_42 (dk_at dksX2_open_2 15 rfl rfl)
theorem dX2_open_63 : decode cX2_open 63 = .ok (.getfield 7, 3) := dk_180 0 7 (dk_at dksX2_open_2 16 rfl rfl)
theorem dX2_open_66 : decode cX2_open 66 = .ok (.iconst 4, 1) := dk_7 (dk_at dksX2_open_2 19 rfl rfl)
theorem dX2_open_67 : decode cX2_open 67 = .ok (.iload_n 2, 1) := dk_28 (dk_at dksX2_open_2 20 rfl rfl)
theorem dX2_open_68 : decode cX2_open 68 = .ok (.iadd, 1) := dk_96 (dk_at dksX2_open_2 21 rfl rfl)
theorem dX2_open_69 : decode cX2_open 69 = .ok (.iaload, 1) := dk_46 (dk_at dksX2_open_2 22 rfl rfl)
theorem dX2_open_70 : decode cX2_open 70 = .ok (.iconst 2, 1) := dk_5 (dk_at dksX2_open_2 23 rfl rfl)
theorem dX2_open_71 : decode cX2_open 71 = .ok (.if_icmp .ge 18, 3) := dk_162 0 18 (dk_at dksX2_open_3 0 rfl rfl)
theorem dX2_open_74 : decode cX2_open 74 = .ok (.aload_n 0, 1) := dk_42 (dk_at dksX2_open_3 3 rfl rfl)
theorem dX2_open_75 : decode cX2_open 75 = .ok (.bipush 8, 2) := dk_16 8 (dk_at dksX2_open_3 4 rfl rfl)
theorem dX2_open_77 : decode cX2_open 77 = .ok (.aload_n 0, 1) := dk_42 (dk_at dksX2_open_3 6 rfl rfl)
theorem dX2_open_78 : decode cX2_open 78 = .ok (.getfield 7, 3) := dk_180 0 7 (dk_at dksX2_open_3 7 rfl rfl)
theorem dX2_open_81 : decode cX2_open 81 = .ok (.iconst 4, 1) := dk_7 (dk_at dksX2_open_3 10 rfl rfl)
theorem dX2_open_82 : decode cX2_open 82 = .ok (.iload_n 2, 1) := dk_28 (dk_at dksX2_open_3 11 rfl rfl)
theorem dX2_open_83 : decode cX2_open 83 = .ok (.iadd, 1) := dk_96 (dk_at dksX2_open_3 12 rfl rfl)
theorem dX2_open_84 : decode cX2_open 84 = .ok (.iaload, 1) := dk_46 (dk_at dksX2_open_3 13 rfl rfl)
theorem dX2_open_85 : decode cX2_open 85 = .ok (.invokevirtual 59, 3) := dk_182 0 59 (dk_at dksX2_open_3 14 rfl rfl)
theorem dX2_open_88 : decode cX2_open 88 = .ok (.ireturn, 1) := dk_172 (dk_at dksX2_open_3 17 rfl rfl)
theorem dX2_open_89 : decode cX2_open 89 = .ok (.aload_n 0, 1) := dk_42 (dk_at dksX2_open_3 18 rfl rfl)
theorem dX2_open_90 : decode cX2_open 90 = .ok (.aload_n 0, 1) := dk_42 (dk_at dksX2_open_3 19 rfl rfl)
theorem dX2_open_91 : decode cX2_open 91 = .ok (.getfield 7, 3) := dk_180 0 7 (dk_at dksX2_open_3 20 rfl rfl)
theorem dX2_open_94 : decode cX2_open 94 = .ok (.invokevirtual 63, 3) := dk_182 0 63 (dk_at dksX2_open_4 0 rfl rfl)
theorem dX2_open_97 : decode cX2_open 97 = .ok (.aload_n 0, 1) := dk_42 (dk_at dksX2_open_4 3 rfl rfl)
theorem dX2_open_98 : decode cX2_open 98 = .ok (.getfield 7, 3) := dk_180 0 7 (dk_at dksX2_open_4 4 rfl rfl)
theorem dX2_open_101 : decode cX2_open 101 = .ok (.iconst 4, 1) := dk_7 (dk_at dksX2_open_4 7 rfl rfl)
theorem dX2_open_102 : decode cX2_open 102 = .ok (.iload_n 2, 1) := dk_28 (dk_at dksX2_open_4 8 rfl rfl)
theorem dX2_open_103 : decode cX2_open 103 = .ok (.iadd, 1) := dk_96 (dk_at dksX2_open_4 9 rfl rfl)
theorem dX2_open_104 : decode cX2_open 104 = .ok (.dup2, 1) := dk_92 (dk_at dksX2_open_4 10 rfl rfl)
theorem dX2_open_105 : decode cX2_open 105 = .ok (.iaload, 1) := dk_46 (dk_at dksX2_open_4 11 rfl rfl)
theorem dX2_open_106 : decode cX2_open 106 = .ok (.iconst 2, 1) := dk_5 (dk_at dksX2_open_4 12 rfl rfl)
theorem dX2_open_107 : decode cX2_open 107 = .ok (.isub, 1) := dk_100 (dk_at dksX2_open_4 13 rfl rfl)
theorem dX2_open_108 : decode cX2_open 108 = .ok (.iastore, 1) := dk_79 (dk_at dksX2_open_4 14 rfl rfl)
theorem dX2_open_109 : decode cX2_open 109 = .ok (.aload_n 0, 1) := dk_42 (dk_at dksX2_open_4 15 rfl rfl)
theorem dX2_open_110 : decode cX2_open 110 = .ok (.getfield 7, 3) := dk_180 0 7 (dk_at dksX2_open_4 16 rfl rfl)
theorem dX2_open_113 : decode cX2_open 113 = .ok (.bipush 8, 2) := dk_16 8 (dk_at dksX2_open_4 19 rfl rfl)
theorem dX2_open_115 : decode cX2_open 115 = .ok (.dup2, 1) := dk_92 (dk_at dksX2_open_4 21 rfl rfl)
theorem dX2_open_116 : decode cX2_open 116 = .ok (.iaload, 1) := dk_46 (dk_at dksX2_open_4 22 rfl rfl)
theorem dX2_open_117 : decode cX2_open 117 = .ok (.iconst 2, 1) := dk_5 (dk_at dksX2_open_4 23 rfl rfl)
theorem dX2_open_118 : decode cX2_open 118 = .ok (.iadd, 1) := dk_96 (dk_at dksX2_open_5 0 rfl rfl)
theorem dX2_open_119 : decode cX2_open 119 = .ok (.iastore, 1) := dk_79 (dk_at dksX2_open_5 1 rfl rfl)
theorem dX2_open_120 : decode cX2_open 120 = .ok (.aload_n 0, 1) := dk_42 (dk_at dksX2_open_5 2 rfl rfl)
theorem dX2_open_121 : decode cX2_open 121 = .ok (.getfield 7, 3) := dk_180 0 7 (dk_at dksX2_open_5 3 rfl rfl)
theorem dX2_open_124 : decode cX2_open 124 = .ok (.bipush 50, 2) := dk_16 50 (dk_at dksX2_open_5 6 rfl rfl)
theorem dX2_open_126 : decode cX2_open 126 = .ok (.bipush 6, 2) := dk_16 6 (dk_at dksX2_open_5 8 rfl rfl)
theorem dX2_open_128 : decode cX2_open 128 = .ok (.iload_n 1, 1) := dk_27 (dk_at dksX2_open_5 10 rfl rfl)
theorem dX2_open_129 : decode cX2_open 129 = .ok (.imul, 1) := dk_104 (dk_at dksX2_open_5 11 rfl rfl)
theorem dX2_open_130 : decode cX2_open 130 = .ok (.iadd, 1) := dk_96 (dk_at dksX2_open_5 12 rfl rfl)
theorem dX2_open_131 : decode cX2_open 131 = .ok (.iconst 4, 1) := dk_7 (dk_at dksX2_open_5 13 rfl rfl)
theorem dX2_open_132 : decode cX2_open 132 = .ok (.iadd, 1) := dk_96 (dk_at dksX2_open_5 14 rfl rfl)
theorem dX2_open_133 : decode cX2_open 133 = .ok (.iconst 0, 1) := dk_3 (dk_at dksX2_open_5 15 rfl rfl)
theorem dX2_open_134 : decode cX2_open 134 = .ok (.iastore, 1) := dk_79 (dk_at dksX2_open_5 16 rfl rfl)
theorem dX2_open_135 : decode cX2_open 135 = .ok (.aload_n 0, 1) := dk_42 (dk_at dksX2_open_5 17 rfl rfl)
theorem dX2_open_136 : decode cX2_open 136 = .ok (.getfield 7, 3) := dk_180 0 7 (dk_at dksX2_open_5 18 rfl rfl)
theorem dX2_open_139 : decode cX2_open 139 = .ok (.iconst 4, 1) := dk_7 (dk_at dksX2_open_5 21 rfl rfl)
theorem dX2_open_140 : decode cX2_open 140 = .ok (.iload_n 2, 1) := dk_28 (dk_at dksX2_open_5 22 rfl rfl)
theorem dX2_open_141 : decode cX2_open 141 = .ok (.iadd, 1) := dk_96 (dk_at dksX2_open_5 23 rfl rfl)
theorem dX2_open_142 : decode cX2_open 142 = .ok (.iaload, 1) := dk_46 (dk_at dksX2_open_6 0 rfl rfl)
theorem dX2_open_143 : decode cX2_open 143 = .ok (.ireturn, 1) := dk_172 (dk_at dksX2_open_6 1 rfl rfl)
abbrev cX2_walker : ByteArray := prog_11_method_29_code
def yX2_walker : MethodName := ⟨RX2, "walker", "(I)I"⟩
def dkwX2_walker_2 : List UInt8 := [182, 0, 109, 167, 0, 13, 42, 180, 0, 7, 6, 27, 96, 4, 100, 46, 172]
abbrev dktX2_walker_2 : List UInt8 := dkwX2_walker_2 ++ []
def dkwX2_walker_1 : List UInt8 := [154, 0, 9, 17, 252, 9, 167, 0, 9, 42, 180, 0, 7, 5, 46, 172, 27, 8, 160, 0, 10, 42]
abbrev dktX2_walker_1 : List UInt8 := dkwX2_walker_1 ++ dktX2_walker_2
def dkwX2_walker_0 : List UInt8 := [27, 3, 8, 184, 0, 55, 154, 0, 7, 17, 252, 12, 172, 27, 154, 0, 25, 42, 180, 0, 7, 3, 46]
abbrev dktX2_walker_0 : List UInt8 := dkwX2_walker_0 ++ dktX2_walker_1
theorem dksX2_walker_0 : cX2_walker.data.toList.drop 0 = dktX2_walker_0 := by decide +kernel
theorem dksX2_walker_1 : cX2_walker.data.toList.drop 23 = dktX2_walker_1 := dk_seg dksX2_walker_0 23 rfl rfl
theorem dksX2_walker_2 : cX2_walker.data.toList.drop 45 = dktX2_walker_2 := dk_seg dksX2_walker_1 22 rfl rfl
theorem dX2_walker_0 : decode cX2_walker 0 = .ok (.iload_n 1, 1) := dk_27 (dk_at dksX2_walker_0 0 rfl rfl)
theorem dX2_walker_1 : decode cX2_walker 1 = .ok (.iconst 0, 1) := dk_3 (dk_at dksX2_walker_0 1 rfl rfl)
theorem dX2_walker_2 : decode cX2_walker 2 = .ok (.iconst 5, 1) := dk_8 (dk_at dksX2_walker_0 2 rfl rfl)
theorem dX2_walker_3 : decode cX2_walker 3 = .ok (.invokestatic 55, 3) := dk_184 0 55 (dk_at dksX2_walker_0 3 rfl rfl)
theorem dX2_walker_6 : decode cX2_walker 6 = .ok (.ifCond .ne 7, 3) := dk_154 0 7 (dk_at dksX2_walker_0 6 rfl rfl)
theorem dX2_walker_9 : decode cX2_walker 9 = .ok (.sipush (-1012), 3) := dk_17 252 12 (dk_at dksX2_walker_0 9 rfl rfl)
theorem dX2_walker_12 : decode cX2_walker 12 = .ok (.ireturn, 1) := dk_172 (dk_at dksX2_walker_0 12 rfl rfl)
theorem dX2_walker_13 : decode cX2_walker 13 = .ok (.iload_n 1, 1) := dk_27 (dk_at dksX2_walker_0 13 rfl rfl)
theorem dX2_walker_14 : decode cX2_walker 14 = .ok (.ifCond .ne 25, 3) := dk_154 0 25 (dk_at dksX2_walker_0 14 rfl rfl)
theorem dX2_walker_17 : decode cX2_walker 17 = .ok (.aload_n 0, 1) := dk_42 (dk_at dksX2_walker_0 17 rfl rfl)
theorem dX2_walker_18 : decode cX2_walker 18 = .ok (.getfield 7, 3) := dk_180 0 7 (dk_at dksX2_walker_0 18 rfl rfl)
theorem dX2_walker_21 : decode cX2_walker 21 = .ok (.iconst 0, 1) := dk_3 (dk_at dksX2_walker_0 21 rfl rfl)
theorem dX2_walker_22 : decode cX2_walker 22 = .ok (.iaload, 1) := dk_46 (dk_at dksX2_walker_0 22 rfl rfl)
theorem dX2_walker_23 : decode cX2_walker 23 = .ok (.ifCond .ne 9, 3) := dk_154 0 9 (dk_at dksX2_walker_1 0 rfl rfl)
theorem dX2_walker_26 : decode cX2_walker 26 = .ok (.sipush (-1015), 3) := dk_17 252 9 (dk_at dksX2_walker_1 3 rfl rfl)
theorem dX2_walker_29 : decode cX2_walker 29 = .ok (.goto 9, 3) := dk_167 0 9 (dk_at dksX2_walker_1 6 rfl rfl)
theorem dX2_walker_32 : decode cX2_walker 32 = .ok (.aload_n 0, 1) := dk_42 (dk_at dksX2_walker_1 9 rfl rfl)
theorem dX2_walker_33 : decode cX2_walker 33 = .ok (.getfield 7, 3) := dk_180 0 7 (dk_at dksX2_walker_1 10 rfl rfl)
theorem dX2_walker_36 : decode cX2_walker 36 = .ok (.iconst 2, 1) := dk_5 (dk_at dksX2_walker_1 13 rfl rfl)
theorem dX2_walker_37 : decode cX2_walker 37 = .ok (.iaload, 1) := dk_46 (dk_at dksX2_walker_1 14 rfl rfl)
theorem dX2_walker_38 : decode cX2_walker 38 = .ok (.ireturn, 1) := dk_172 (dk_at dksX2_walker_1 15 rfl rfl)
theorem dX2_walker_39 : decode cX2_walker 39 = .ok (.iload_n 1, 1) := dk_27 (dk_at dksX2_walker_1 16 rfl rfl)
theorem dX2_walker_40 : decode cX2_walker 40 = .ok (.iconst 5, 1) := dk_8 (dk_at dksX2_walker_1 17 rfl rfl)
theorem dX2_walker_41 : decode cX2_walker 41 = .ok (.if_icmp .ne 10, 3) := dk_160 0 10 (dk_at dksX2_walker_1 18 rfl rfl)
theorem dX2_walker_44 : decode cX2_walker 44 = .ok (.aload_n 0, 1) := dk_42 (dk_at dksX2_walker_1 21 rfl rfl)
theorem dX2_walker_45 : decode cX2_walker 45 = .ok (.invokevirtual 109, 3) := dk_182 0 109 (dk_at dksX2_walker_2 0 rfl rfl)
theorem dX2_walker_48 : decode cX2_walker 48 = .ok (.goto 13, 3) := dk_167 0 13 (dk_at dksX2_walker_2 3 rfl rfl)
theorem dX2_walker_51 : decode cX2_walker 51 = .ok (.aload_n 0, 1) := dk_42 (dk_at dksX2_walker_2 6 rfl rfl)
theorem dX2_walker_52 : decode cX2_walker 52 = .ok (.getfield 7, 3) := dk_180 0 7 (dk_at dksX2_walker_2 7 rfl rfl)
theorem dX2_walker_55 : decode cX2_walker 55 = .ok (.iconst 3, 1) := dk_6 (dk_at dksX2_walker_2 10 rfl rfl)
theorem dX2_walker_56 : decode cX2_walker 56 = .ok (.iload_n 1, 1) := dk_27 (dk_at dksX2_walker_2 11 rfl rfl)
theorem dX2_walker_57 : decode cX2_walker 57 = .ok (.iadd, 1) := dk_96 (dk_at dksX2_walker_2 12 rfl rfl)
theorem dX2_walker_58 : decode cX2_walker 58 = .ok (.iconst 1, 1) := dk_4 (dk_at dksX2_walker_2 13 rfl rfl)
theorem dX2_walker_59 : decode cX2_walker 59 = .ok (.isub, 1) := dk_100 (dk_at dksX2_walker_2 14 rfl rfl)
theorem dX2_walker_60 : decode cX2_walker 60 = .ok (.iaload, 1) := dk_46 (dk_at dksX2_walker_2 15 rfl rfl)
theorem dX2_walker_61 : decode cX2_walker 61 = .ok (.ireturn, 1) := dk_172 (dk_at dksX2_walker_2 16 rfl rfl)
abbrev cX2_canGo : ByteArray := prog_11_method_28_code
def yX2_canGo : MethodName := ⟨RX2, "canGo", "()I"⟩
def dkwX2_canGo_3 : List UInt8 := [132, 2, 1, 167, 255, 187, 27, 172]
abbrev dktX2_canGo_3 : List UInt8 := dkwX2_canGo_3 ++ []
def dkwX2_canGo_2 : List UInt8 := [42, 180, 0, 7, 5, 46, 182, 0, 97, 96, 182, 0, 100, 153, 0, 7, 4, 167, 0, 4, 3, 96, 60]
abbrev dktX2_canGo_2 : List UInt8 := dkwX2_canGo_2 ++ dktX2_canGo_3
def dkwX2_canGo_1 : List UInt8 := [182, 0, 90, 153, 0, 41, 42, 28, 7, 182, 0, 67, 154, 0, 32, 42, 28, 42, 180, 0, 7, 6, 46, 42]
abbrev dktX2_canGo_1 : List UInt8 := dkwX2_canGo_1 ++ dktX2_canGo_2
def dkwX2_canGo_0 : List UInt8 := [3, 60, 3, 61, 28, 42, 180, 0, 7, 4, 46, 162, 0, 65, 27, 42, 42, 180, 0, 7, 5, 46, 28]
abbrev dktX2_canGo_0 : List UInt8 := dkwX2_canGo_0 ++ dktX2_canGo_1
theorem dksX2_canGo_0 : cX2_canGo.data.toList.drop 0 = dktX2_canGo_0 := by decide +kernel
theorem dksX2_canGo_1 : cX2_canGo.data.toList.drop 23 = dktX2_canGo_1 := dk_seg dksX2_canGo_0 23 rfl rfl
theorem dksX2_canGo_2 : cX2_canGo.data.toList.drop 47 = dktX2_canGo_2 := dk_seg dksX2_canGo_1 24 rfl rfl
theorem dksX2_canGo_3 : cX2_canGo.data.toList.drop 70 = dktX2_canGo_3 := dk_seg dksX2_canGo_2 23 rfl rfl
theorem dX2_canGo_0 : decode cX2_canGo 0 = .ok (.iconst 0, 1) := dk_3 (dk_at dksX2_canGo_0 0 rfl rfl)
theorem dX2_canGo_1 : decode cX2_canGo 1 = .ok (.istore_n 1, 1) := dk_60 (dk_at dksX2_canGo_0 1 rfl rfl)
theorem dX2_canGo_2 : decode cX2_canGo 2 = .ok (.iconst 0, 1) := dk_3 (dk_at dksX2_canGo_0 2 rfl rfl)
theorem dX2_canGo_3 : decode cX2_canGo 3 = .ok (.istore_n 2, 1) := dk_61 (dk_at dksX2_canGo_0 3 rfl rfl)
theorem dX2_canGo_4 : decode cX2_canGo 4 = .ok (.iload_n 2, 1) := dk_28 (dk_at dksX2_canGo_0 4 rfl rfl)
theorem dX2_canGo_5 : decode cX2_canGo 5 = .ok (.aload_n 0, 1) := dk_42 (dk_at dksX2_canGo_0 5 rfl rfl)
theorem dX2_canGo_6 : decode cX2_canGo 6 = .ok (.getfield 7, 3) := dk_180 0 7 (dk_at dksX2_canGo_0 6 rfl rfl)
theorem dX2_canGo_9 : decode cX2_canGo 9 = .ok (.iconst 1, 1) := dk_4 (dk_at dksX2_canGo_0 9 rfl rfl)
theorem dX2_canGo_10 : decode cX2_canGo 10 = .ok (.iaload, 1) := dk_46 (dk_at dksX2_canGo_0 10 rfl rfl)
theorem dX2_canGo_11 : decode cX2_canGo 11 = .ok (.if_icmp .ge 65, 3) := dk_162 0 65 (dk_at dksX2_canGo_0 11 rfl rfl)
theorem dX2_canGo_14 : decode cX2_canGo 14 = .ok (.iload_n 1, 1) := dk_27 (dk_at dksX2_canGo_0 14 rfl rfl)
theorem dX2_canGo_15 : decode cX2_canGo 15 = .ok (.aload_n 0, 1) := dk_42 (dk_at dksX2_canGo_0 15 rfl rfl)
theorem dX2_canGo_16 : decode cX2_canGo 16 = .ok (.aload_n 0, 1) := dk_42 (dk_at dksX2_canGo_0 16 rfl rfl)
theorem dX2_canGo_17 : decode cX2_canGo 17 = .ok (.getfield 7, 3) := dk_180 0 7 (dk_at dksX2_canGo_0 17 rfl rfl)
theorem dX2_canGo_20 : decode cX2_canGo 20 = .ok (.iconst 2, 1) := dk_5 (dk_at dksX2_canGo_0 20 rfl rfl)
theorem dX2_canGo_21 : decode cX2_canGo 21 = .ok (.iaload, 1) := dk_46 (dk_at dksX2_canGo_0 21 rfl rfl)
theorem dX2_canGo_22 : decode cX2_canGo 22 = .ok (.iload_n 2, 1) := dk_28 (dk_at dksX2_canGo_0 22 rfl rfl)
theorem dX2_canGo_23 : decode cX2_canGo 23 = .ok (.invokevirtual 90, 3) := dk_182 0 90 (dk_at dksX2_canGo_1 0 rfl rfl)
theorem dX2_canGo_26 : decode cX2_canGo 26 = .ok (.ifCond .eq 41, 3) := dk_153 0 41 (dk_at dksX2_canGo_1 3 rfl rfl)
theorem dX2_canGo_29 : decode cX2_canGo 29 = .ok (.aload_n 0, 1) := dk_42 (dk_at dksX2_canGo_1 6 rfl rfl)
theorem dX2_canGo_30 : decode cX2_canGo 30 = .ok (.iload_n 2, 1) := dk_28 (dk_at dksX2_canGo_1 7 rfl rfl)
theorem dX2_canGo_31 : decode cX2_canGo 31 = .ok (.iconst 4, 1) := dk_7 (dk_at dksX2_canGo_1 8 rfl rfl)
theorem dX2_canGo_32 : decode cX2_canGo 32 = .ok (.invokevirtual 67, 3) := dk_182 0 67 (dk_at dksX2_canGo_1 9 rfl rfl)
theorem dX2_canGo_35 : decode cX2_canGo 35 = .ok (.ifCond .ne 32, 3) := dk_154 0 32 (dk_at dksX2_canGo_1 12 rfl rfl)
theorem dX2_canGo_38 : decode cX2_canGo 38 = .ok (.aload_n 0, 1) := dk_42 (dk_at dksX2_canGo_1 15 rfl rfl)
theorem dX2_canGo_39 : decode cX2_canGo 39 = .ok (.iload_n 2, 1) := dk_28 (dk_at dksX2_canGo_1 16 rfl rfl)
theorem dX2_canGo_40 : decode cX2_canGo 40 = .ok (.aload_n 0, 1) := dk_42 (dk_at dksX2_canGo_1 17 rfl rfl)
theorem dX2_canGo_41 : decode cX2_canGo 41 = .ok (.getfield 7, 3) := dk_180 0 7 (dk_at dksX2_canGo_1 18 rfl rfl)
theorem dX2_canGo_44 : decode cX2_canGo 44 = .ok (.iconst 3, 1) := dk_6 (dk_at dksX2_canGo_1 21 rfl rfl)
theorem dX2_canGo_45 : decode cX2_canGo 45 = .ok (.iaload, 1) := dk_46 (dk_at dksX2_canGo_1 22 rfl rfl)
theorem dX2_canGo_46 : decode cX2_canGo 46 = .ok (.aload_n 0, 1) := dk_42 (dk_at dksX2_canGo_1 23 rfl rfl)
theorem dX2_canGo_47 : decode cX2_canGo 47 = .ok (.aload_n 0, 1) := dk_42 (dk_at dksX2_canGo_2 0 rfl rfl)
theorem dX2_canGo_48 : decode cX2_canGo 48 = .ok (.getfield 7, 3) := dk_180 0 7 (dk_at dksX2_canGo_2 1 rfl rfl)
theorem dX2_canGo_51 : decode cX2_canGo 51 = .ok (.iconst 2, 1) := dk_5 (dk_at dksX2_canGo_2 4 rfl rfl)
theorem dX2_canGo_52 : decode cX2_canGo 52 = .ok (.iaload, 1) := dk_46 (dk_at dksX2_canGo_2 5 rfl rfl)
theorem dX2_canGo_53 : decode cX2_canGo 53 = .ok (.invokevirtual 97, 3) := dk_182 0 97 (dk_at dksX2_canGo_2 6 rfl rfl)
theorem dX2_canGo_56 : decode cX2_canGo 56 = .ok (.iadd, 1) := dk_96 (dk_at dksX2_canGo_2 9 rfl rfl)
theorem dX2_canGo_57 : decode cX2_canGo 57 = .ok (.invokevirtual 100, 3) := dk_182 0 100 (dk_at dksX2_canGo_2 10 rfl rfl)
theorem dX2_canGo_60 : decode cX2_canGo 60 = .ok (.ifCond .eq 7, 3) := dk_153 0 7 (dk_at dksX2_canGo_2 13 rfl rfl)
theorem dX2_canGo_63 : decode cX2_canGo 63 = .ok (.iconst 1, 1) := dk_4 (dk_at dksX2_canGo_2 16 rfl rfl)
theorem dX2_canGo_64 : decode cX2_canGo 64 = .ok (.goto 4, 3) := dk_167 0 4 (dk_at dksX2_canGo_2 17 rfl rfl)
theorem dX2_canGo_67 : decode cX2_canGo 67 = .ok (.iconst 0, 1) := dk_3 (dk_at dksX2_canGo_2 20 rfl rfl)
theorem dX2_canGo_68 : decode cX2_canGo 68 = .ok (.iadd, 1) := dk_96 (dk_at dksX2_canGo_2 21 rfl rfl)
theorem dX2_canGo_69 : decode cX2_canGo 69 = .ok (.istore_n 1, 1) := dk_60 (dk_at dksX2_canGo_2 22 rfl rfl)
theorem dX2_canGo_70 : decode cX2_canGo 70 = .ok (.iinc 2 1, 3) := dk_132 2 1 (dk_at dksX2_canGo_3 0 rfl rfl)
theorem dX2_canGo_73 : decode cX2_canGo 73 = .ok (.goto (-69), 3) := dk_167 255 187 (dk_at dksX2_canGo_3 3 rfl rfl)
theorem dX2_canGo_76 : decode cX2_canGo 76 = .ok (.iload_n 1, 1) := dk_27 (dk_at dksX2_canGo_3 6 rfl rfl)
theorem dX2_canGo_77 : decode cX2_canGo 77 = .ok (.ireturn, 1) := dk_172 (dk_at dksX2_canGo_3 7 rfl rfl)
abbrev cX2_way : ByteArray := prog_11_method_35_code
def yX2_way : MethodName := ⟨RX2, "way", "(III)I"⟩
def dkwX2_way_2 : List UInt8 := [17, 252, 9, 167, 0, 8, 42, 28, 182, 0, 126, 172]
abbrev dktX2_way_2 : List UInt8 := dkwX2_way_2 ++ []
def dkwX2_way_1 : List UInt8 := [17, 252, 12, 172, 42, 27, 29, 4, 182, 0, 122, 42, 28, 182, 0, 126, 17, 39, 15, 160, 0, 9]
abbrev dktX2_way_1 : List UInt8 := dkwX2_way_1 ++ dktX2_way_2
def dkwX2_way_0 : List UInt8 := [42, 27, 28, 182, 0, 119, 154, 0, 7, 17, 252, 13, 172, 29, 3, 4, 184, 0, 55, 154, 0, 7]
abbrev dktX2_way_0 : List UInt8 := dkwX2_way_0 ++ dktX2_way_1
theorem dksX2_way_0 : cX2_way.data.toList.drop 0 = dktX2_way_0 := by decide +kernel
theorem dksX2_way_1 : cX2_way.data.toList.drop 22 = dktX2_way_1 := dk_seg dksX2_way_0 22 rfl rfl
theorem dksX2_way_2 : cX2_way.data.toList.drop 44 = dktX2_way_2 := dk_seg dksX2_way_1 22 rfl rfl
theorem dX2_way_0 : decode cX2_way 0 = .ok (.aload_n 0, 1) := dk_42 (dk_at dksX2_way_0 0 rfl rfl)
theorem dX2_way_1 : decode cX2_way 1 = .ok (.iload_n 1, 1) := dk_27 (dk_at dksX2_way_0 1 rfl rfl)
theorem dX2_way_2 : decode cX2_way 2 = .ok (.iload_n 2, 1) := dk_28 (dk_at dksX2_way_0 2 rfl rfl)
theorem dX2_way_3 : decode cX2_way 3 = .ok (.invokevirtual 119, 3) := dk_182 0 119 (dk_at dksX2_way_0 3 rfl rfl)
theorem dX2_way_6 : decode cX2_way 6 = .ok (.ifCond .ne 7, 3) := dk_154 0 7 (dk_at dksX2_way_0 6 rfl rfl)
theorem dX2_way_9 : decode cX2_way 9 = .ok (.sipush (-1011), 3) := dk_17 252 13 (dk_at dksX2_way_0 9 rfl rfl)
theorem dX2_way_12 : decode cX2_way 12 = .ok (.ireturn, 1) := dk_172 (dk_at dksX2_way_0 12 rfl rfl)
theorem dX2_way_13 : decode cX2_way 13 = .ok (.iload_n 3, 1) := dk_29 (dk_at dksX2_way_0 13 rfl rfl)
theorem dX2_way_14 : decode cX2_way 14 = .ok (.iconst 0, 1) := dk_3 (dk_at dksX2_way_0 14 rfl rfl)
theorem dX2_way_15 : decode cX2_way 15 = .ok (.iconst 1, 1) := dk_4 (dk_at dksX2_way_0 15 rfl rfl)
theorem dX2_way_16 : decode cX2_way 16 = .ok (.invokestatic 55, 3) := dk_184 0 55 (dk_at dksX2_way_0 16 rfl rfl)
theorem dX2_way_19 : decode cX2_way 19 = .ok (.ifCond .ne 7, 3) := dk_154 0 7 (dk_at dksX2_way_0 19 rfl rfl)
theorem dX2_way_22 : decode cX2_way 22 = .ok (.sipush (-1012), 3) := dk_17 252 12 (dk_at dksX2_way_1 0 rfl rfl)
theorem dX2_way_25 : decode cX2_way 25 = .ok (.ireturn, 1) := dk_172 (dk_at dksX2_way_1 3 rfl rfl)
theorem dX2_way_26 : decode cX2_way 26 = .ok (.aload_n 0, 1) := dk_42 (dk_at dksX2_way_1 4 rfl rfl)
theorem dX2_way_27 : decode cX2_way 27 = .ok (.iload_n 1, 1) := dk_27 (dk_at dksX2_way_1 5 rfl rfl)
theorem dX2_way_28 : decode cX2_way 28 = .ok (.iload_n 3, 1) := dk_29 (dk_at dksX2_way_1 6 rfl rfl)
theorem dX2_way_29 : decode cX2_way 29 = .ok (.iconst 1, 1) := dk_4 (dk_at dksX2_way_1 7 rfl rfl)
theorem dX2_way_30 : decode cX2_way 30 = .ok (.invokevirtual 122, 3) := dk_182 0 122 (dk_at dksX2_way_1 8 rfl rfl)
theorem dX2_way_33 : decode cX2_way 33 = .ok (.aload_n 0, 1) := dk_42 (dk_at dksX2_way_1 11 rfl rfl)
theorem dX2_way_34 : decode cX2_way 34 = .ok (.iload_n 2, 1) := dk_28 (dk_at dksX2_way_1 12 rfl rfl)
theorem dX2_way_35 : decode cX2_way 35 = .ok (.invokevirtual 126, 3) := dk_182 0 126 (dk_at dksX2_way_1 13 rfl rfl)
theorem dX2_way_38 : decode cX2_way 38 = .ok (.sipush 9999, 3) := dk_17 39 15 (dk_at dksX2_way_1 16 rfl rfl)
theorem dX2_way_41 : decode cX2_way 41 = .ok (.if_icmp .ne 9, 3) := dk_160 0 9 (dk_at dksX2_way_1 19 rfl rfl)
theorem dX2_way_44 : decode cX2_way 44 = .ok (.sipush (-1015), 3) := dk_17 252 9 (dk_at dksX2_way_2 0 rfl rfl)
theorem dX2_way_47 : decode cX2_way 47 = .ok (.goto 8, 3) := dk_167 0 8 (dk_at dksX2_way_2 3 rfl rfl)
theorem dX2_way_50 : decode cX2_way 50 = .ok (.aload_n 0, 1) := dk_42 (dk_at dksX2_way_2 6 rfl rfl)
theorem dX2_way_51 : decode cX2_way 51 = .ok (.iload_n 2, 1) := dk_28 (dk_at dksX2_way_2 7 rfl rfl)
theorem dX2_way_52 : decode cX2_way 52 = .ok (.invokevirtual 126, 3) := dk_182 0 126 (dk_at dksX2_way_2 8 rfl rfl)
theorem dX2_way_55 : decode cX2_way 55 = .ok (.ireturn, 1) := dk_172 (dk_at dksX2_way_2 11 rfl rfl)
abbrev cX2_areRooms : ByteArray := prog_11_method_34_code
def yX2_areRooms : MethodName := ⟨RX2, "areRooms", "(II)Z"⟩
def dkwX2_areRooms_0 : List UInt8 := [42, 27, 182, 0, 76, 153, 0, 15, 42, 28, 182, 0, 76, 153, 0, 7, 4, 167, 0, 4, 3, 172]
abbrev dktX2_areRooms_0 : List UInt8 := dkwX2_areRooms_0 ++ []
theorem dksX2_areRooms_0 : cX2_areRooms.data.toList.drop 0 = dktX2_areRooms_0 := by decide +kernel
theorem dX2_areRooms_0 : decode cX2_areRooms 0 = .ok (.aload_n 0, 1) := dk_42 (dk_at dksX2_areRooms_0 0 rfl rfl)
theorem dX2_areRooms_1 : decode cX2_areRooms 1 = .ok (.iload_n 1, 1) := dk_27 (dk_at dksX2_areRooms_0 1 rfl rfl)
theorem dX2_areRooms_2 : decode cX2_areRooms 2 = .ok (.invokevirtual 76, 3) := dk_182 0 76 (dk_at dksX2_areRooms_0 2 rfl rfl)
theorem dX2_areRooms_5 : decode cX2_areRooms 5 = .ok (.ifCond .eq 15, 3) := dk_153 0 15 (dk_at dksX2_areRooms_0 5 rfl rfl)
theorem dX2_areRooms_8 : decode cX2_areRooms 8 = .ok (.aload_n 0, 1) := dk_42 (dk_at dksX2_areRooms_0 8 rfl rfl)
theorem dX2_areRooms_9 : decode cX2_areRooms 9 = .ok (.iload_n 2, 1) := dk_28 (dk_at dksX2_areRooms_0 9 rfl rfl)
theorem dX2_areRooms_10 : decode cX2_areRooms 10 = .ok (.invokevirtual 76, 3) := dk_182 0 76 (dk_at dksX2_areRooms_0 10 rfl rfl)
theorem dX2_areRooms_13 : decode cX2_areRooms 13 = .ok (.ifCond .eq 7, 3) := dk_153 0 7 (dk_at dksX2_areRooms_0 13 rfl rfl)
theorem dX2_areRooms_16 : decode cX2_areRooms 16 = .ok (.iconst 1, 1) := dk_4 (dk_at dksX2_areRooms_0 16 rfl rfl)
theorem dX2_areRooms_17 : decode cX2_areRooms 17 = .ok (.goto 4, 3) := dk_167 0 4 (dk_at dksX2_areRooms_0 17 rfl rfl)
theorem dX2_areRooms_20 : decode cX2_areRooms 20 = .ok (.iconst 0, 1) := dk_3 (dk_at dksX2_areRooms_0 20 rfl rfl)
theorem dX2_areRooms_21 : decode cX2_areRooms 21 = .ok (.ireturn, 1) := dk_172 (dk_at dksX2_areRooms_0 21 rfl rfl)
abbrev cX2_spreads : ByteArray := prog_11_method_30_code
def yX2_spreads : MethodName := ⟨RX2, "spreads", "(IIZ)V"⟩
def dkwX2_spreads_8 : List UInt8 := [167, 255, 186, 132, 5, 1, 167, 255, 114, 132, 4, 1, 167, 255, 98, 177]
abbrev dktX2_spreads_8 : List UInt8 := dkwX2_spreads_8 ++ []
def dkwX2_spreads_7 : List UInt8 := [42, 180, 0, 28, 21, 5, 46, 42, 21, 5, 5, 108, 182, 0, 97, 96, 184, 0, 70, 79, 132, 6, 1]
abbrev dktX2_spreads_7 : List UInt8 := dkwX2_spreads_7 ++ dktX2_spreads_8
def dkwX2_spreads_6 : List UInt8 := [180, 0, 28, 42, 21, 5, 21, 6, 182, 0, 116, 42, 180, 0, 28, 42, 21, 5, 21, 6, 182, 0, 116, 46]
abbrev dktX2_spreads_6 : List UInt8 := dkwX2_spreads_6 ++ dktX2_spreads_7
def dkwX2_spreads_5 : List UInt8 := [21, 6, 42, 180, 0, 7, 4, 46, 162, 0, 65, 42, 21, 5, 21, 6, 182, 0, 113, 153, 0, 48, 42]
abbrev dktX2_spreads_5 : List UInt8 := dkwX2_spreads_5 ++ dktX2_spreads_6
def dkwX2_spreads_4 : List UInt8 := [180, 0, 28, 21, 5, 4, 130, 46, 42, 180, 0, 28, 21, 5, 46, 4, 96, 184, 0, 70, 79, 3, 54, 6]
abbrev dktX2_spreads_4 : List UInt8 := dkwX2_spreads_4 ++ dktX2_spreads_5
def dkwX2_spreads_3 : List UInt8 := [17, 39, 15, 160, 0, 6, 167, 0, 113, 29, 153, 0, 33, 42, 180, 0, 28, 21, 5, 4, 130, 42]
abbrev dktX2_spreads_3 : List UInt8 := dkwX2_spreads_3 ++ dktX2_spreads_4
def dkwX2_spreads_2 : List UInt8 := [3, 54, 5, 21, 5, 5, 42, 180, 0, 7, 3, 46, 104, 162, 0, 135, 42, 180, 0, 28, 21, 5, 46]
abbrev dktX2_spreads_2 : List UInt8 := dkwX2_spreads_2 ++ dktX2_spreads_3
def dkwX2_spreads_1 : List UInt8 := [167, 255, 236, 42, 180, 0, 28, 5, 27, 104, 28, 96, 3, 79, 3, 54, 4, 21, 4, 16, 20, 162, 0, 157]
abbrev dktX2_spreads_1 : List UInt8 := dkwX2_spreads_1 ++ dktX2_spreads_2
def dkwX2_spreads_0 : List UInt8 := [3, 54, 4, 21, 4, 16, 20, 162, 0, 19, 42, 180, 0, 28, 21, 4, 17, 39, 15, 79, 132, 4, 1]
abbrev dktX2_spreads_0 : List UInt8 := dkwX2_spreads_0 ++ dktX2_spreads_1
theorem dksX2_spreads_0 : cX2_spreads.data.toList.drop 0 = dktX2_spreads_0 := by decide +kernel
theorem dksX2_spreads_1 : cX2_spreads.data.toList.drop 23 = dktX2_spreads_1 := dk_seg dksX2_spreads_0 23 rfl rfl
theorem dksX2_spreads_2 : cX2_spreads.data.toList.drop 47 = dktX2_spreads_2 := dk_seg dksX2_spreads_1 24 rfl rfl
theorem dksX2_spreads_3 : cX2_spreads.data.toList.drop 70 = dktX2_spreads_3 := dk_seg dksX2_spreads_2 23 rfl rfl
theorem dksX2_spreads_4 : cX2_spreads.data.toList.drop 92 = dktX2_spreads_4 := dk_seg dksX2_spreads_3 22 rfl rfl
theorem dksX2_spreads_5 : cX2_spreads.data.toList.drop 116 = dktX2_spreads_5 := dk_seg dksX2_spreads_4 24 rfl rfl
theorem dksX2_spreads_6 : cX2_spreads.data.toList.drop 139 = dktX2_spreads_6 := dk_seg dksX2_spreads_5 23 rfl rfl
theorem dksX2_spreads_7 : cX2_spreads.data.toList.drop 163 = dktX2_spreads_7 := dk_seg dksX2_spreads_6 24 rfl rfl
theorem dksX2_spreads_8 : cX2_spreads.data.toList.drop 186 = dktX2_spreads_8 := dk_seg dksX2_spreads_7 23 rfl rfl
theorem dX2_spreads_0 : decode cX2_spreads 0 = .ok (.iconst 0, 1) := dk_3 (dk_at dksX2_spreads_0 0 rfl rfl)
theorem dX2_spreads_1 : decode cX2_spreads 1 = .ok (.istore 4, 2) := dk_54 4 (dk_at dksX2_spreads_0 1 rfl rfl)
theorem dX2_spreads_3 : decode cX2_spreads 3 = .ok (.iload 4, 2) := dk_21 4 (dk_at dksX2_spreads_0 3 rfl rfl)
theorem dX2_spreads_5 : decode cX2_spreads 5 = .ok (.bipush 20, 2) := dk_16 20 (dk_at dksX2_spreads_0 5 rfl rfl)
theorem dX2_spreads_7 : decode cX2_spreads 7 = .ok (.if_icmp .ge 19, 3) := dk_162 0 19 (dk_at dksX2_spreads_0 7 rfl rfl)
theorem dX2_spreads_10 : decode cX2_spreads 10 = .ok (.aload_n 0, 1) := dk_42 (dk_at dksX2_spreads_0 10 rfl rfl)
theorem dX2_spreads_11 : decode cX2_spreads 11 = .ok (.getfield 28, 3) := dk_180 0 28 (dk_at dksX2_spreads_0 11 rfl rfl)
theorem dX2_spreads_14 : decode cX2_spreads 14 = .ok (.iload 4, 2) := dk_21 4 (dk_at dksX2_spreads_0 14 rfl rfl)
theorem dX2_spreads_16 : decode cX2_spreads 16 = .ok (.sipush 9999, 3) := dk_17 39 15 (dk_at dksX2_spreads_0 16 rfl rfl)
theorem dX2_spreads_19 : decode cX2_spreads 19 = .ok (.iastore, 1) := dk_79 (dk_at dksX2_spreads_0 19 rfl rfl)
theorem dX2_spreads_20 : decode cX2_spreads 20 = .ok (.iinc 4 1, 3) := dk_132 4 1 (dk_at dksX2_spreads_0 20 rfl rfl)
theorem dX2_spreads_23 : decode cX2_spreads 23 = .ok (.goto (-20), 3) := dk_167 255 236 (dk_at dksX2_spreads_1 0 rfl rfl)
theorem dX2_spreads_26 : decode cX2_spreads 26 = .ok (.aload_n 0, 1) := dk_42 (dk_at dksX2_spreads_1 3 rfl rfl)
theorem dX2_spreads_27 : decode cX2_spreads 27 = .ok (.getfield 28, 3) := dk_180 0 28 (dk_at dksX2_spreads_1 4 rfl rfl)
theorem dX2_spreads_30 : decode cX2_spreads 30 = .ok (.iconst 2, 1) := dk_5 (dk_at dksX2_spreads_1 7 rfl rfl)
theorem dX2_spreads_31 : decode cX2_spreads 31 = .ok (.iload_n 1, 1) := dk_27 (dk_at dksX2_spreads_1 8 rfl rfl)
theorem dX2_spreads_32 : decode cX2_spreads 32 = .ok (.imul, 1) := dk_104 (dk_at dksX2_spreads_1 9 rfl rfl)
theorem dX2_spreads_33 : decode cX2_spreads 33 = .ok (.iload_n 2, 1) := dk_28 (dk_at dksX2_spreads_1 10 rfl rfl)
theorem dX2_spreads_34 : decode cX2_spreads 34 = .ok (.iadd, 1) := dk_96 (dk_at dksX2_spreads_1 11 rfl rfl)
theorem dX2_spreads_35 : decode cX2_spreads 35 = .ok (.iconst 0, 1) := dk_3 (dk_at dksX2_spreads_1 12 rfl rfl)
theorem dX2_spreads_36 : decode cX2_spreads 36 = .ok (.iastore, 1) := dk_79 (dk_at dksX2_spreads_1 13 rfl rfl)
theorem dX2_spreads_37 : decode cX2_spreads 37 = .ok (.iconst 0, 1) := dk_3 (dk_at dksX2_spreads_1 14 rfl rfl)
theorem dX2_spreads_38 : decode cX2_spreads 38 = .ok (.istore 4, 2) := dk_54 4 (dk_at dksX2_spreads_1 15 rfl rfl)
theorem dX2_spreads_40 : decode cX2_spreads 40 = .ok (.iload 4, 2) := dk_21 4 (dk_at dksX2_spreads_1 17 rfl rfl)
theorem dX2_spreads_42 : decode cX2_spreads 42 = .ok (.bipush 20, 2) := dk_16 20 (dk_at dksX2_spreads_1 19 rfl rfl)
theorem dX2_spreads_44 : decode cX2_spreads 44 = .ok (.if_icmp .ge 157, 3) := dk_162 0 157 (dk_at dksX2_spreads_1 21 rfl rfl)
theorem dX2_spreads_47 : decode cX2_spreads 47 = .ok (.iconst 0, 1) := dk_3 (dk_at dksX2_spreads_2 0 rfl rfl)
theorem dX2_spreads_48 : decode cX2_spreads 48 = .ok (.istore 5, 2) := dk_54 5 (dk_at dksX2_spreads_2 1 rfl rfl)
theorem dX2_spreads_50 : decode cX2_spreads 50 = .ok (.iload 5, 2) := dk_21 5 (dk_at dksX2_spreads_2 3 rfl rfl)
theorem dX2_spreads_52 : decode cX2_spreads 52 = .ok (.iconst 2, 1) := dk_5 (dk_at dksX2_spreads_2 5 rfl rfl)
theorem dX2_spreads_53 : decode cX2_spreads 53 = .ok (.aload_n 0, 1) := dk_42 (dk_at dksX2_spreads_2 6 rfl rfl)
theorem dX2_spreads_54 : decode cX2_spreads 54 = .ok (.getfield 7, 3) := dk_180 0 7 (dk_at dksX2_spreads_2 7 rfl rfl)
theorem dX2_spreads_57 : decode cX2_spreads 57 = .ok (.iconst 0, 1) := dk_3 (dk_at dksX2_spreads_2 10 rfl rfl)
theorem dX2_spreads_58 : decode cX2_spreads 58 = .ok (.iaload, 1) := dk_46 (dk_at dksX2_spreads_2 11 rfl rfl)
theorem dX2_spreads_59 : decode cX2_spreads 59 = .ok (.imul, 1) := dk_104 (dk_at dksX2_spreads_2 12 rfl rfl)
theorem dX2_spreads_60 : decode cX2_spreads 60 = .ok (.if_icmp .ge 135, 3) := dk_162 0 135 (dk_at dksX2_spreads_2 13 rfl rfl)
theorem dX2_spreads_63 : decode cX2_spreads 63 = .ok (.aload_n 0, 1) := dk_42 (dk_at dksX2_spreads_2 16 rfl rfl)
theorem dX2_spreads_64 : decode cX2_spreads 64 = .ok (.getfield 28, 3) := dk_180 0 28 (dk_at dksX2_spreads_2 17 rfl rfl)
theorem dX2_spreads_67 : decode cX2_spreads 67 = .ok (.iload 5, 2) := dk_21 5 (dk_at dksX2_spreads_2 20 rfl rfl)
theorem dX2_spreads_69 : decode cX2_spreads 69 = .ok (.iaload, 1) := dk_46 (dk_at dksX2_spreads_2 22 rfl rfl)
theorem dX2_spreads_70 : decode cX2_spreads 70 = .ok (.sipush 9999, 3) := dk_17 39 15 (dk_at dksX2_spreads_3 0 rfl rfl)
theorem dX2_spreads_73 : decode cX2_spreads 73 = .ok (.if_icmp .ne 6, 3) := dk_160 0 6 (dk_at dksX2_spreads_3 3 rfl rfl)
theorem dX2_spreads_76 : decode cX2_spreads 76 = .ok (.goto 113, 3) := dk_167 0 113 (dk_at dksX2_spreads_3 6 rfl rfl)
theorem dX2_spreads_79 : decode cX2_spreads 79 = .ok (.iload_n 3, 1) := dk_29 (dk_at dksX2_spreads_3 9 rfl rfl)
theorem dX2_spreads_80 : decode cX2_spreads 80 = .ok (.ifCond .eq 33, 3) := dk_153 0 33 (dk_at dksX2_spreads_3 10 rfl rfl)
theorem dX2_spreads_83 : decode cX2_spreads 83 = .ok (.aload_n 0, 1) := dk_42 (dk_at dksX2_spreads_3 13 rfl rfl)
theorem dX2_spreads_84 : decode cX2_spreads 84 = .ok (.getfield 28, 3) := dk_180 0 28 (dk_at dksX2_spreads_3 14 rfl rfl)
theorem dX2_spreads_87 : decode cX2_spreads 87 = .ok (.iload 5, 2) := dk_21 5 (dk_at dksX2_spreads_3 17 rfl rfl)
theorem dX2_spreads_89 : decode cX2_spreads 89 = .ok (.iconst 1, 1) := dk_4 (dk_at dksX2_spreads_3 19 rfl rfl)
theorem dX2_spreads_90 : decode cX2_spreads 90 = .ok (.ixor, 1) := dk_130 (dk_at dksX2_spreads_3 20 rfl rfl)
theorem dX2_spreads_91 : decode cX2_spreads 91 = .ok (.aload_n 0, 1) := dk_42 (dk_at dksX2_spreads_3 21 rfl rfl)
theorem dX2_spreads_92 : decode cX2_spreads 92 = .ok (.getfield 28, 3) := dk_180 0 28 (dk_at dksX2_spreads_4 0 rfl rfl)
theorem dX2_spreads_95 : decode cX2_spreads 95 = .ok (.iload 5, 2) := dk_21 5 (dk_at dksX2_spreads_4 3 rfl rfl)
theorem dX2_spreads_97 : decode cX2_spreads 97 = .ok (.iconst 1, 1) := dk_4 (dk_at dksX2_spreads_4 5 rfl rfl)
theorem dX2_spreads_98 : decode cX2_spreads 98 = .ok (.ixor, 1) := dk_130 (dk_at dksX2_spreads_4 6 rfl rfl)
theorem dX2_spreads_99 : decode cX2_spreads 99 = .ok (.iaload, 1) := dk_46 (dk_at dksX2_spreads_4 7 rfl rfl)
theorem dX2_spreads_100 : decode cX2_spreads 100 = .ok (.aload_n 0, 1) := dk_42 (dk_at dksX2_spreads_4 8 rfl rfl)
theorem dX2_spreads_101 : decode cX2_spreads 101 = .ok (.getfield 28, 3) := dk_180 0 28 (dk_at dksX2_spreads_4 9 rfl rfl)
theorem dX2_spreads_104 : decode cX2_spreads 104 = .ok (.iload 5, 2) := dk_21 5 (dk_at dksX2_spreads_4 12 rfl rfl)
theorem dX2_spreads_106 : decode cX2_spreads 106 = .ok (.iaload, 1) := dk_46 (dk_at dksX2_spreads_4 14 rfl rfl)
theorem dX2_spreads_107 : decode cX2_spreads 107 = .ok (.iconst 1, 1) := dk_4 (dk_at dksX2_spreads_4 15 rfl rfl)
theorem dX2_spreads_108 : decode cX2_spreads 108 = .ok (.iadd, 1) := dk_96 (dk_at dksX2_spreads_4 16 rfl rfl)
theorem dX2_spreads_109 : decode cX2_spreads 109 = .ok (.invokestatic 70, 3) := dk_184 0 70 (dk_at dksX2_spreads_4 17 rfl rfl)
theorem dX2_spreads_112 : decode cX2_spreads 112 = .ok (.iastore, 1) := dk_79 (dk_at dksX2_spreads_4 20 rfl rfl)
theorem dX2_spreads_113 : decode cX2_spreads 113 = .ok (.iconst 0, 1) := dk_3 (dk_at dksX2_spreads_4 21 rfl rfl)
theorem dX2_spreads_114 : decode cX2_spreads 114 = .ok (.istore 6, 2) := dk_54 6 (dk_at dksX2_spreads_4 22 rfl rfl)
theorem dX2_spreads_116 : decode cX2_spreads 116 = .ok (.iload 6, 2) := dk_21 6 (dk_at dksX2_spreads_5 0 rfl rfl)
theorem dX2_spreads_118 : decode cX2_spreads 118 = .ok (.aload_n 0, 1) := dk_42 (dk_at dksX2_spreads_5 2 rfl rfl)
theorem dX2_spreads_119 : decode cX2_spreads 119 = .ok (.getfield 7, 3) := dk_180 0 7 (dk_at dksX2_spreads_5 3 rfl rfl)
theorem dX2_spreads_122 : decode cX2_spreads 122 = .ok (.iconst 1, 1) := dk_4 (dk_at dksX2_spreads_5 6 rfl rfl)
theorem dX2_spreads_123 : decode cX2_spreads 123 = .ok (.iaload, 1) := dk_46 (dk_at dksX2_spreads_5 7 rfl rfl)
theorem dX2_spreads_124 : decode cX2_spreads 124 = .ok (.if_icmp .ge 65, 3) := dk_162 0 65 (dk_at dksX2_spreads_5 8 rfl rfl)
theorem dX2_spreads_127 : decode cX2_spreads 127 = .ok (.aload_n 0, 1) := dk_42 (dk_at dksX2_spreads_5 11 rfl rfl)
theorem dX2_spreads_128 : decode cX2_spreads 128 = .ok (.iload 5, 2) := dk_21 5 (dk_at dksX2_spreads_5 12 rfl rfl)
theorem dX2_spreads_130 : decode cX2_spreads 130 = .ok (.iload 6, 2) := dk_21 6 (dk_at dksX2_spreads_5 14 rfl rfl)
theorem dX2_spreads_132 : decode cX2_spreads 132 = .ok (.invokevirtual 113, 3) := dk_182 0 113 (dk_at dksX2_spreads_5 16 rfl rfl)
theorem dX2_spreads_135 : decode cX2_spreads 135 = .ok (.ifCond .eq 48, 3) := dk_153 0 48 (dk_at dksX2_spreads_5 19 rfl rfl)
theorem dX2_spreads_138 : decode cX2_spreads 138 = .ok (.aload_n 0, 1) := dk_42 (dk_at dksX2_spreads_5 22 rfl rfl)
theorem dX2_spreads_139 : decode cX2_spreads 139 = .ok (.getfield 28, 3) := dk_180 0 28 (dk_at dksX2_spreads_6 0 rfl rfl)
theorem dX2_spreads_142 : decode cX2_spreads 142 = .ok (.aload_n 0, 1) := dk_42 (dk_at dksX2_spreads_6 3 rfl rfl)
theorem dX2_spreads_143 : decode cX2_spreads 143 = .ok (.iload 5, 2) := dk_21 5 (dk_at dksX2_spreads_6 4 rfl rfl)
theorem dX2_spreads_145 : decode cX2_spreads 145 = .ok (.iload 6, 2) := dk_21 6 (dk_at dksX2_spreads_6 6 rfl rfl)
theorem dX2_spreads_147 : decode cX2_spreads 147 = .ok (.invokevirtual 116, 3) := dk_182 0 116 (dk_at dksX2_spreads_6 8 rfl rfl)
theorem dX2_spreads_150 : decode cX2_spreads 150 = .ok (.aload_n 0, 1) := dk_42 (dk_at dksX2_spreads_6 11 rfl rfl)
theorem dX2_spreads_151 : decode cX2_spreads 151 = .ok (.getfield 28, 3) := dk_180 0 28 (dk_at dksX2_spreads_6 12 rfl rfl)
theorem dX2_spreads_154 : decode cX2_spreads 154 = .ok (.aload_n 0, 1) := dk_42 (dk_at dksX2_spreads_6 15 rfl rfl)
theorem dX2_spreads_155 : decode cX2_spreads 155 = .ok (.iload 5, 2) := dk_21 5 (dk_at dksX2_spreads_6 16 rfl rfl)
theorem dX2_spreads_157 : decode cX2_spreads 157 = .ok (.iload 6, 2) := dk_21 6 (dk_at dksX2_spreads_6 18 rfl rfl)
theorem dX2_spreads_159 : decode cX2_spreads 159 = .ok (.invokevirtual 116, 3) := dk_182 0 116 (dk_at dksX2_spreads_6 20 rfl rfl)
theorem dX2_spreads_162 : decode cX2_spreads 162 = .ok (.iaload, 1) := dk_46 (dk_at dksX2_spreads_6 23 rfl rfl)
theorem dX2_spreads_163 : decode cX2_spreads 163 = .ok (.aload_n 0, 1) := dk_42 (dk_at dksX2_spreads_7 0 rfl rfl)
theorem dX2_spreads_164 : decode cX2_spreads 164 = .ok (.getfield 28, 3) := dk_180 0 28 (dk_at dksX2_spreads_7 1 rfl rfl)
theorem dX2_spreads_167 : decode cX2_spreads 167 = .ok (.iload 5, 2) := dk_21 5 (dk_at dksX2_spreads_7 4 rfl rfl)
theorem dX2_spreads_169 : decode cX2_spreads 169 = .ok (.iaload, 1) := dk_46 (dk_at dksX2_spreads_7 6 rfl rfl)
theorem dX2_spreads_170 : decode cX2_spreads 170 = .ok (.aload_n 0, 1) := dk_42 (dk_at dksX2_spreads_7 7 rfl rfl)
theorem dX2_spreads_171 : decode cX2_spreads 171 = .ok (.iload 5, 2) := dk_21 5 (dk_at dksX2_spreads_7 8 rfl rfl)
theorem dX2_spreads_173 : decode cX2_spreads 173 = .ok (.iconst 2, 1) := dk_5 (dk_at dksX2_spreads_7 10 rfl rfl)
theorem dX2_spreads_174 : decode cX2_spreads 174 = .ok (.idiv, 1) := dk_108 (dk_at dksX2_spreads_7 11 rfl rfl)
theorem dX2_spreads_175 : decode cX2_spreads 175 = .ok (.invokevirtual 97, 3) := dk_182 0 97 (dk_at dksX2_spreads_7 12 rfl rfl)
theorem dX2_spreads_178 : decode cX2_spreads 178 = .ok (.iadd, 1) := dk_96 (dk_at dksX2_spreads_7 15 rfl rfl)
theorem dX2_spreads_179 : decode cX2_spreads 179 = .ok (.invokestatic 70, 3) := dk_184 0 70 (dk_at dksX2_spreads_7 16 rfl rfl)
theorem dX2_spreads_182 : decode cX2_spreads 182 = .ok (.iastore, 1) := dk_79 (dk_at dksX2_spreads_7 19 rfl rfl)
theorem dX2_spreads_183 : decode cX2_spreads 183 = .ok (.iinc 6 1, 3) := dk_132 6 1 (dk_at dksX2_spreads_7 20 rfl rfl)
theorem dX2_spreads_186 : decode cX2_spreads 186 = .ok (.goto (-70), 3) := dk_167 255 186 (dk_at dksX2_spreads_8 0 rfl rfl)
theorem dX2_spreads_189 : decode cX2_spreads 189 = .ok (.iinc 5 1, 3) := dk_132 5 1 (dk_at dksX2_spreads_8 3 rfl rfl)
theorem dX2_spreads_192 : decode cX2_spreads 192 = .ok (.goto (-142), 3) := dk_167 255 114 (dk_at dksX2_spreads_8 6 rfl rfl)
theorem dX2_spreads_195 : decode cX2_spreads 195 = .ok (.iinc 4 1, 3) := dk_132 4 1 (dk_at dksX2_spreads_8 9 rfl rfl)
theorem dX2_spreads_198 : decode cX2_spreads 198 = .ok (.goto (-158), 3) := dk_167 255 98 (dk_at dksX2_spreads_8 12 rfl rfl)
theorem dX2_spreads_201 : decode cX2_spreads 201 = .ok (.return_, 1) := dk_177 (dk_at dksX2_spreads_8 15 rfl rfl)
abbrev cX2_isOpenTo : ByteArray := prog_11_method_31_code
def yX2_isOpenTo : MethodName := ⟨RX2, "isOpenTo", "(II)Z"⟩
def dkwX2_isOpenTo_1 : List UInt8 := [112, 42, 27, 5, 108, 182, 0, 97, 96, 182, 0, 100, 153, 0, 7, 4, 167, 0, 4, 3, 172]
abbrev dktX2_isOpenTo_1 : List UInt8 := dkwX2_isOpenTo_1 ++ []
def dkwX2_isOpenTo_0 : List UInt8 := [42, 27, 5, 108, 28, 182, 0, 90, 153, 0, 35, 42, 28, 7, 182, 0, 67, 154, 0, 26, 42, 28, 27, 5]
abbrev dktX2_isOpenTo_0 : List UInt8 := dkwX2_isOpenTo_0 ++ dktX2_isOpenTo_1
theorem dksX2_isOpenTo_0 : cX2_isOpenTo.data.toList.drop 0 = dktX2_isOpenTo_0 := by decide +kernel
theorem dksX2_isOpenTo_1 : cX2_isOpenTo.data.toList.drop 24 = dktX2_isOpenTo_1 := dk_seg dksX2_isOpenTo_0 24 rfl rfl
theorem dX2_isOpenTo_0 : decode cX2_isOpenTo 0 = .ok (.aload_n 0, 1) := dk_42 (dk_at dksX2_isOpenTo_0 0 rfl rfl)
theorem dX2_isOpenTo_1 : decode cX2_isOpenTo 1 = .ok (.iload_n 1, 1) := dk_27 (dk_at dksX2_isOpenTo_0 1 rfl rfl)
theorem dX2_isOpenTo_2 : decode cX2_isOpenTo 2 = .ok (.iconst 2, 1) := dk_5 (dk_at dksX2_isOpenTo_0 2 rfl rfl)
theorem dX2_isOpenTo_3 : decode cX2_isOpenTo 3 = .ok (.idiv, 1) := dk_108 (dk_at dksX2_isOpenTo_0 3 rfl rfl)
theorem dX2_isOpenTo_4 : decode cX2_isOpenTo 4 = .ok (.iload_n 2, 1) := dk_28 (dk_at dksX2_isOpenTo_0 4 rfl rfl)
theorem dX2_isOpenTo_5 : decode cX2_isOpenTo 5 = .ok (.invokevirtual 90, 3) := dk_182 0 90 (dk_at dksX2_isOpenTo_0 5 rfl rfl)
theorem dX2_isOpenTo_8 : decode cX2_isOpenTo 8 = .ok (.ifCond .eq 35, 3) := dk_153 0 35 (dk_at dksX2_isOpenTo_0 8 rfl rfl)
theorem dX2_isOpenTo_11 : decode cX2_isOpenTo 11 = .ok (.aload_n 0, 1) := dk_42 (dk_at dksX2_isOpenTo_0 11 rfl rfl)
theorem dX2_isOpenTo_12 : decode cX2_isOpenTo 12 = .ok (.iload_n 2, 1) := dk_28 (dk_at dksX2_isOpenTo_0 12 rfl rfl)
theorem dX2_isOpenTo_13 : decode cX2_isOpenTo 13 = .ok (.iconst 4, 1) := dk_7 (dk_at dksX2_isOpenTo_0 13 rfl rfl)
theorem dX2_isOpenTo_14 : decode cX2_isOpenTo 14 = .ok (.invokevirtual 67, 3) := dk_182 0 67 (dk_at dksX2_isOpenTo_0 14 rfl rfl)
theorem dX2_isOpenTo_17 : decode cX2_isOpenTo 17 = .ok (.ifCond .ne 26, 3) := dk_154 0 26 (dk_at dksX2_isOpenTo_0 17 rfl rfl)
theorem dX2_isOpenTo_20 : decode cX2_isOpenTo 20 = .ok (.aload_n 0, 1) := dk_42 (dk_at dksX2_isOpenTo_0 20 rfl rfl)
theorem dX2_isOpenTo_21 : decode cX2_isOpenTo 21 = .ok (.iload_n 2, 1) := dk_28 (dk_at dksX2_isOpenTo_0 21 rfl rfl)
theorem dX2_isOpenTo_22 : decode cX2_isOpenTo 22 = .ok (.iload_n 1, 1) := dk_27 (dk_at dksX2_isOpenTo_0 22 rfl rfl)
theorem dX2_isOpenTo_23 : decode cX2_isOpenTo 23 = .ok (.iconst 2, 1) := dk_5 (dk_at dksX2_isOpenTo_0 23 rfl rfl)
theorem dX2_isOpenTo_24 : decode cX2_isOpenTo 24 = .ok (.irem, 1) := dk_112 (dk_at dksX2_isOpenTo_1 0 rfl rfl)
theorem dX2_isOpenTo_25 : decode cX2_isOpenTo 25 = .ok (.aload_n 0, 1) := dk_42 (dk_at dksX2_isOpenTo_1 1 rfl rfl)
theorem dX2_isOpenTo_26 : decode cX2_isOpenTo 26 = .ok (.iload_n 1, 1) := dk_27 (dk_at dksX2_isOpenTo_1 2 rfl rfl)
theorem dX2_isOpenTo_27 : decode cX2_isOpenTo 27 = .ok (.iconst 2, 1) := dk_5 (dk_at dksX2_isOpenTo_1 3 rfl rfl)
theorem dX2_isOpenTo_28 : decode cX2_isOpenTo 28 = .ok (.idiv, 1) := dk_108 (dk_at dksX2_isOpenTo_1 4 rfl rfl)
theorem dX2_isOpenTo_29 : decode cX2_isOpenTo 29 = .ok (.invokevirtual 97, 3) := dk_182 0 97 (dk_at dksX2_isOpenTo_1 5 rfl rfl)
theorem dX2_isOpenTo_32 : decode cX2_isOpenTo 32 = .ok (.iadd, 1) := dk_96 (dk_at dksX2_isOpenTo_1 8 rfl rfl)
theorem dX2_isOpenTo_33 : decode cX2_isOpenTo 33 = .ok (.invokevirtual 100, 3) := dk_182 0 100 (dk_at dksX2_isOpenTo_1 9 rfl rfl)
theorem dX2_isOpenTo_36 : decode cX2_isOpenTo 36 = .ok (.ifCond .eq 7, 3) := dk_153 0 7 (dk_at dksX2_isOpenTo_1 12 rfl rfl)
theorem dX2_isOpenTo_39 : decode cX2_isOpenTo 39 = .ok (.iconst 1, 1) := dk_4 (dk_at dksX2_isOpenTo_1 15 rfl rfl)
theorem dX2_isOpenTo_40 : decode cX2_isOpenTo 40 = .ok (.goto 4, 3) := dk_167 0 4 (dk_at dksX2_isOpenTo_1 16 rfl rfl)
theorem dX2_isOpenTo_43 : decode cX2_isOpenTo 43 = .ok (.iconst 0, 1) := dk_3 (dk_at dksX2_isOpenTo_1 19 rfl rfl)
theorem dX2_isOpenTo_44 : decode cX2_isOpenTo 44 = .ok (.ireturn, 1) := dk_172 (dk_at dksX2_isOpenTo_1 20 rfl rfl)
abbrev cX2_comesBy : ByteArray := prog_11_method_32_code
def yX2_comesBy : MethodName := ⟨RX2, "comesBy", "(II)I"⟩
def dkwX2_comesBy_0 : List UInt8 := [5, 42, 27, 5, 108, 28, 182, 0, 106, 104, 27, 42, 27, 5, 108, 182, 0, 97, 96, 5, 112, 96, 172]
abbrev dktX2_comesBy_0 : List UInt8 := dkwX2_comesBy_0 ++ []
theorem dksX2_comesBy_0 : cX2_comesBy.data.toList.drop 0 = dktX2_comesBy_0 := by decide +kernel
theorem dX2_comesBy_0 : decode cX2_comesBy 0 = .ok (.iconst 2, 1) := dk_5 (dk_at dksX2_comesBy_0 0 rfl rfl)
theorem dX2_comesBy_1 : decode cX2_comesBy 1 = .ok (.aload_n 0, 1) := dk_42 (dk_at dksX2_comesBy_0 1 rfl rfl)
theorem dX2_comesBy_2 : decode cX2_comesBy 2 = .ok (.iload_n 1, 1) := dk_27 (dk_at dksX2_comesBy_0 2 rfl rfl)
theorem dX2_comesBy_3 : decode cX2_comesBy 3 = .ok (.iconst 2, 1) := dk_5 (dk_at dksX2_comesBy_0 3 rfl rfl)
theorem dX2_comesBy_4 : decode cX2_comesBy 4 = .ok (.idiv, 1) := dk_108 (dk_at dksX2_comesBy_0 4 rfl rfl)
theorem dX2_comesBy_5 : decode cX2_comesBy 5 = .ok (.iload_n 2, 1) := dk_28 (dk_at dksX2_comesBy_0 5 rfl rfl)
theorem dX2_comesBy_6 : decode cX2_comesBy 6 = .ok (.invokevirtual 106, 3) := dk_182 0 106 (dk_at dksX2_comesBy_0 6 rfl rfl)
theorem dX2_comesBy_9 : decode cX2_comesBy 9 = .ok (.imul, 1) := dk_104 (dk_at dksX2_comesBy_0 9 rfl rfl)
theorem dX2_comesBy_10 : decode cX2_comesBy 10 = .ok (.iload_n 1, 1) := dk_27 (dk_at dksX2_comesBy_0 10 rfl rfl)
theorem dX2_comesBy_11 : decode cX2_comesBy 11 = .ok (.aload_n 0, 1) := dk_42 (dk_at dksX2_comesBy_0 11 rfl rfl)
theorem dX2_comesBy_12 : decode cX2_comesBy 12 = .ok (.iload_n 1, 1) := dk_27 (dk_at dksX2_comesBy_0 12 rfl rfl)
theorem dX2_comesBy_13 : decode cX2_comesBy 13 = .ok (.iconst 2, 1) := dk_5 (dk_at dksX2_comesBy_0 13 rfl rfl)
theorem dX2_comesBy_14 : decode cX2_comesBy 14 = .ok (.idiv, 1) := dk_108 (dk_at dksX2_comesBy_0 14 rfl rfl)
theorem dX2_comesBy_15 : decode cX2_comesBy 15 = .ok (.invokevirtual 97, 3) := dk_182 0 97 (dk_at dksX2_comesBy_0 15 rfl rfl)
theorem dX2_comesBy_18 : decode cX2_comesBy 18 = .ok (.iadd, 1) := dk_96 (dk_at dksX2_comesBy_0 18 rfl rfl)
theorem dX2_comesBy_19 : decode cX2_comesBy 19 = .ok (.iconst 2, 1) := dk_5 (dk_at dksX2_comesBy_0 19 rfl rfl)
theorem dX2_comesBy_20 : decode cX2_comesBy 20 = .ok (.irem, 1) := dk_112 (dk_at dksX2_comesBy_0 20 rfl rfl)
theorem dX2_comesBy_21 : decode cX2_comesBy 21 = .ok (.iadd, 1) := dk_96 (dk_at dksX2_comesBy_0 21 rfl rfl)
theorem dX2_comesBy_22 : decode cX2_comesBy 22 = .ok (.ireturn, 1) := dk_172 (dk_at dksX2_comesBy_0 22 rfl rfl)
abbrev cX2_fewest : ByteArray := prog_11_method_33_code
def yX2_fewest : MethodName := ⟨RX2, "fewest", "(I)I"⟩
def dkwX2_fewest_0 : List UInt8 := [42, 180, 0, 28, 5, 27, 104, 46, 42, 180, 0, 28, 5, 27, 104, 4, 96, 46, 184, 0, 70, 172]
abbrev dktX2_fewest_0 : List UInt8 := dkwX2_fewest_0 ++ []
theorem dksX2_fewest_0 : cX2_fewest.data.toList.drop 0 = dktX2_fewest_0 := by decide +kernel
theorem dX2_fewest_0 : decode cX2_fewest 0 = .ok (.aload_n 0, 1) := dk_42 (dk_at dksX2_fewest_0 0 rfl rfl)
theorem dX2_fewest_1 : decode cX2_fewest 1 = .ok (.getfield 28, 3) := dk_180 0 28 (dk_at dksX2_fewest_0 1 rfl rfl)
theorem dX2_fewest_4 : decode cX2_fewest 4 = .ok (.iconst 2, 1) := dk_5 (dk_at dksX2_fewest_0 4 rfl rfl)
theorem dX2_fewest_5 : decode cX2_fewest 5 = .ok (.iload_n 1, 1) := dk_27 (dk_at dksX2_fewest_0 5 rfl rfl)
theorem dX2_fewest_6 : decode cX2_fewest 6 = .ok (.imul, 1) := dk_104 (dk_at dksX2_fewest_0 6 rfl rfl)
theorem dX2_fewest_7 : decode cX2_fewest 7 = .ok (.iaload, 1) := dk_46 (dk_at dksX2_fewest_0 7 rfl rfl)
theorem dX2_fewest_8 : decode cX2_fewest 8 = .ok (.aload_n 0, 1) := dk_42 (dk_at dksX2_fewest_0 8 rfl rfl)
theorem dX2_fewest_9 : decode cX2_fewest 9 = .ok (.getfield 28, 3) := dk_180 0 28 (dk_at dksX2_fewest_0 9 rfl rfl)
theorem dX2_fewest_12 : decode cX2_fewest 12 = .ok (.iconst 2, 1) := dk_5 (dk_at dksX2_fewest_0 12 rfl rfl)
theorem dX2_fewest_13 : decode cX2_fewest 13 = .ok (.iload_n 1, 1) := dk_27 (dk_at dksX2_fewest_0 13 rfl rfl)
theorem dX2_fewest_14 : decode cX2_fewest 14 = .ok (.imul, 1) := dk_104 (dk_at dksX2_fewest_0 14 rfl rfl)
theorem dX2_fewest_15 : decode cX2_fewest 15 = .ok (.iconst 1, 1) := dk_4 (dk_at dksX2_fewest_0 15 rfl rfl)
theorem dX2_fewest_16 : decode cX2_fewest 16 = .ok (.iadd, 1) := dk_96 (dk_at dksX2_fewest_0 16 rfl rfl)
theorem dX2_fewest_17 : decode cX2_fewest 17 = .ok (.iaload, 1) := dk_46 (dk_at dksX2_fewest_0 17 rfl rfl)
theorem dX2_fewest_18 : decode cX2_fewest 18 = .ok (.invokestatic 70, 3) := dk_184 0 70 (dk_at dksX2_fewest_0 18 rfl rfl)
theorem dX2_fewest_21 : decode cX2_fewest 21 = .ok (.ireturn, 1) := dk_172 (dk_at dksX2_fewest_0 21 rfl rfl)
abbrev cX2_wayAgain : ByteArray := prog_11_method_36_code
def yX2_wayAgain : MethodName := ⟨RX2, "wayAgain", "(III)I"⟩
def dkwX2_wayAgain_0 : List UInt8 := [42, 27, 28, 29, 182, 0, 129, 172]
abbrev dktX2_wayAgain_0 : List UInt8 := dkwX2_wayAgain_0 ++ []
theorem dksX2_wayAgain_0 : cX2_wayAgain.data.toList.drop 0 = dktX2_wayAgain_0 := by decide +kernel
theorem dX2_wayAgain_0 : decode cX2_wayAgain 0 = .ok (.aload_n 0, 1) := dk_42 (dk_at dksX2_wayAgain_0 0 rfl rfl)
theorem dX2_wayAgain_1 : decode cX2_wayAgain 1 = .ok (.iload_n 1, 1) := dk_27 (dk_at dksX2_wayAgain_0 1 rfl rfl)
theorem dX2_wayAgain_2 : decode cX2_wayAgain 2 = .ok (.iload_n 2, 1) := dk_28 (dk_at dksX2_wayAgain_0 2 rfl rfl)
theorem dX2_wayAgain_3 : decode cX2_wayAgain 3 = .ok (.iload_n 3, 1) := dk_29 (dk_at dksX2_wayAgain_0 3 rfl rfl)
theorem dX2_wayAgain_4 : decode cX2_wayAgain 4 = .ok (.invokevirtual 129, 3) := dk_182 0 129 (dk_at dksX2_wayAgain_0 4 rfl rfl)
theorem dX2_wayAgain_7 : decode cX2_wayAgain 7 = .ok (.ireturn, 1) := dk_172 (dk_at dksX2_wayAgain_0 7 rfl rfl)
abbrev cX2_onWay : ByteArray := prog_11_method_39_code
def yX2_onWay : MethodName := ⟨RX2, "onWay", "(IIII)I"⟩
def dkwX2_onWay_4 : List UInt8 := [167, 255, 226, 21, 5, 5, 108, 172]
abbrev dktX2_onWay_4 : List UInt8 := dkwX2_onWay_4 ++ []
def dkwX2_onWay_3 : List UInt8 := [21, 5, 5, 108, 28, 160, 0, 7, 17, 252, 13, 172, 42, 21, 5, 182, 0, 137, 54, 5, 132, 6, 1]
abbrev dktX2_onWay_3 : List UInt8 := dkwX2_onWay_3 ++ dktX2_onWay_4
def dkwX2_onWay_2 : List UInt8 := [21, 5, 46, 17, 39, 15, 161, 0, 7, 17, 252, 9, 172, 3, 54, 6, 21, 6, 21, 4, 162, 0, 29]
abbrev dktX2_onWay_2 : List UInt8 := dkwX2_onWay_2 ++ dktX2_onWay_3
def dkwX2_onWay_1 : List UInt8 := [154, 0, 7, 17, 252, 12, 172, 42, 28, 182, 0, 133, 5, 27, 104, 29, 96, 54, 5, 42, 180, 0, 31]
abbrev dktX2_onWay_1 : List UInt8 := dkwX2_onWay_1 ++ dktX2_onWay_2
def dkwX2_onWay_0 : List UInt8 := [42, 27, 28, 182, 0, 119, 153, 0, 8, 21, 4, 156, 0, 7, 17, 252, 13, 172, 29, 3, 4, 184, 0, 55]
abbrev dktX2_onWay_0 : List UInt8 := dkwX2_onWay_0 ++ dktX2_onWay_1
theorem dksX2_onWay_0 : cX2_onWay.data.toList.drop 0 = dktX2_onWay_0 := by decide +kernel
theorem dksX2_onWay_1 : cX2_onWay.data.toList.drop 24 = dktX2_onWay_1 := dk_seg dksX2_onWay_0 24 rfl rfl
theorem dksX2_onWay_2 : cX2_onWay.data.toList.drop 47 = dktX2_onWay_2 := dk_seg dksX2_onWay_1 23 rfl rfl
theorem dksX2_onWay_3 : cX2_onWay.data.toList.drop 70 = dktX2_onWay_3 := dk_seg dksX2_onWay_2 23 rfl rfl
theorem dksX2_onWay_4 : cX2_onWay.data.toList.drop 93 = dktX2_onWay_4 := dk_seg dksX2_onWay_3 23 rfl rfl
theorem dX2_onWay_0 : decode cX2_onWay 0 = .ok (.aload_n 0, 1) := dk_42 (dk_at dksX2_onWay_0 0 rfl rfl)
theorem dX2_onWay_1 : decode cX2_onWay 1 = .ok (.iload_n 1, 1) := dk_27 (dk_at dksX2_onWay_0 1 rfl rfl)
theorem dX2_onWay_2 : decode cX2_onWay 2 = .ok (.iload_n 2, 1) := dk_28 (dk_at dksX2_onWay_0 2 rfl rfl)
theorem dX2_onWay_3 : decode cX2_onWay 3 = .ok (.invokevirtual 119, 3) := dk_182 0 119 (dk_at dksX2_onWay_0 3 rfl rfl)
theorem dX2_onWay_6 : decode cX2_onWay 6 = .ok (.ifCond .eq 8, 3) := dk_153 0 8 (dk_at dksX2_onWay_0 6 rfl rfl)
theorem dX2_onWay_9 : decode cX2_onWay 9 = .ok (.iload 4, 2) := dk_21 4 (dk_at dksX2_onWay_0 9 rfl rfl)
theorem dX2_onWay_11 : decode cX2_onWay 11 = .ok (.ifCond .ge 7, 3) := dk_156 0 7 (dk_at dksX2_onWay_0 11 rfl rfl)
theorem dX2_onWay_14 : decode cX2_onWay 14 = .ok (.sipush (-1011), 3) := dk_17 252 13 (dk_at dksX2_onWay_0 14 rfl rfl)
theorem dX2_onWay_17 : decode cX2_onWay 17 = .ok (.ireturn, 1) := dk_172 (dk_at dksX2_onWay_0 17 rfl rfl)
theorem dX2_onWay_18 : decode cX2_onWay 18 = .ok (.iload_n 3, 1) := dk_29 (dk_at dksX2_onWay_0 18 rfl rfl)
theorem dX2_onWay_19 : decode cX2_onWay 19 = .ok (.iconst 0, 1) := dk_3 (dk_at dksX2_onWay_0 19 rfl rfl)
theorem dX2_onWay_20 : decode cX2_onWay 20 = .ok (.iconst 1, 1) := dk_4 (dk_at dksX2_onWay_0 20 rfl rfl)
theorem dX2_onWay_21 : decode cX2_onWay 21 = .ok (.invokestatic 55, 3) := dk_184 0 55 (dk_at dksX2_onWay_0 21 rfl rfl)
theorem dX2_onWay_24 : decode cX2_onWay 24 = .ok (.ifCond .ne 7, 3) := dk_154 0 7 (dk_at dksX2_onWay_1 0 rfl rfl)
theorem dX2_onWay_27 : decode cX2_onWay 27 = .ok (.sipush (-1012), 3) := dk_17 252 12 (dk_at dksX2_onWay_1 3 rfl rfl)
theorem dX2_onWay_30 : decode cX2_onWay 30 = .ok (.ireturn, 1) := dk_172 (dk_at dksX2_onWay_1 6 rfl rfl)
theorem dX2_onWay_31 : decode cX2_onWay 31 = .ok (.aload_n 0, 1) := dk_42 (dk_at dksX2_onWay_1 7 rfl rfl)
theorem dX2_onWay_32 : decode cX2_onWay 32 = .ok (.iload_n 2, 1) := dk_28 (dk_at dksX2_onWay_1 8 rfl rfl)
theorem dX2_onWay_33 : decode cX2_onWay 33 = .ok (.invokevirtual 133, 3) := dk_182 0 133 (dk_at dksX2_onWay_1 9 rfl rfl)
theorem dX2_onWay_36 : decode cX2_onWay 36 = .ok (.iconst 2, 1) := dk_5 (dk_at dksX2_onWay_1 12 rfl rfl)
theorem dX2_onWay_37 : decode cX2_onWay 37 = .ok (.iload_n 1, 1) := dk_27 (dk_at dksX2_onWay_1 13 rfl rfl)
theorem dX2_onWay_38 : decode cX2_onWay 38 = .ok (.imul, 1) := dk_104 (dk_at dksX2_onWay_1 14 rfl rfl)
theorem dX2_onWay_39 : decode cX2_onWay 39 = .ok (.iload_n 3, 1) := dk_29 (dk_at dksX2_onWay_1 15 rfl rfl)
theorem dX2_onWay_40 : decode cX2_onWay 40 = .ok (.iadd, 1) := dk_96 (dk_at dksX2_onWay_1 16 rfl rfl)
theorem dX2_onWay_41 : decode cX2_onWay 41 = .ok (.istore 5, 2) := dk_54 5 (dk_at dksX2_onWay_1 17 rfl rfl)
theorem dX2_onWay_43 : decode cX2_onWay 43 = .ok (.aload_n 0, 1) := dk_42 (dk_at dksX2_onWay_1 19 rfl rfl)
theorem dX2_onWay_44 : decode cX2_onWay 44 = .ok (.getfield 31, 3) := dk_180 0 31 (dk_at dksX2_onWay_1 20 rfl rfl)
theorem dX2_onWay_47 : decode cX2_onWay 47 = .ok (.iload 5, 2) := dk_21 5 (dk_at dksX2_onWay_2 0 rfl rfl)
theorem dX2_onWay_49 : decode cX2_onWay 49 = .ok (.iaload, 1) := dk_46 (dk_at dksX2_onWay_2 2 rfl rfl)
theorem dX2_onWay_50 : decode cX2_onWay 50 = .ok (.sipush 9999, 3) := dk_17 39 15 (dk_at dksX2_onWay_2 3 rfl rfl)
theorem dX2_onWay_53 : decode cX2_onWay 53 = .ok (.if_icmp .lt 7, 3) := dk_161 0 7 (dk_at dksX2_onWay_2 6 rfl rfl)
theorem dX2_onWay_56 : decode cX2_onWay 56 = .ok (.sipush (-1015), 3) := dk_17 252 9 (dk_at dksX2_onWay_2 9 rfl rfl)
theorem dX2_onWay_59 : decode cX2_onWay 59 = .ok (.ireturn, 1) := dk_172 (dk_at dksX2_onWay_2 12 rfl rfl)
theorem dX2_onWay_60 : decode cX2_onWay 60 = .ok (.iconst 0, 1) := dk_3 (dk_at dksX2_onWay_2 13 rfl rfl)
theorem dX2_onWay_61 : decode cX2_onWay 61 = .ok (.istore 6, 2) := dk_54 6 (dk_at dksX2_onWay_2 14 rfl rfl)
theorem dX2_onWay_63 : decode cX2_onWay 63 = .ok (.iload 6, 2) := dk_21 6 (dk_at dksX2_onWay_2 16 rfl rfl)
theorem dX2_onWay_65 : decode cX2_onWay 65 = .ok (.iload 4, 2) := dk_21 4 (dk_at dksX2_onWay_2 18 rfl rfl)
theorem dX2_onWay_67 : decode cX2_onWay 67 = .ok (.if_icmp .ge 29, 3) := dk_162 0 29 (dk_at dksX2_onWay_2 20 rfl rfl)
theorem dX2_onWay_70 : decode cX2_onWay 70 = .ok (.iload 5, 2) := dk_21 5 (dk_at dksX2_onWay_3 0 rfl rfl)
theorem dX2_onWay_72 : decode cX2_onWay 72 = .ok (.iconst 2, 1) := dk_5 (dk_at dksX2_onWay_3 2 rfl rfl)
theorem dX2_onWay_73 : decode cX2_onWay 73 = .ok (.idiv, 1) := dk_108 (dk_at dksX2_onWay_3 3 rfl rfl)
theorem dX2_onWay_74 : decode cX2_onWay 74 = .ok (.iload_n 2, 1) := dk_28 (dk_at dksX2_onWay_3 4 rfl rfl)
theorem dX2_onWay_75 : decode cX2_onWay 75 = .ok (.if_icmp .ne 7, 3) := dk_160 0 7 (dk_at dksX2_onWay_3 5 rfl rfl)
theorem dX2_onWay_78 : decode cX2_onWay 78 = .ok (.sipush (-1011), 3) := dk_17 252 13 (dk_at dksX2_onWay_3 8 rfl rfl)
theorem dX2_onWay_81 : decode cX2_onWay 81 = .ok (.ireturn, 1) := dk_172 (dk_at dksX2_onWay_3 11 rfl rfl)
theorem dX2_onWay_82 : decode cX2_onWay 82 = .ok (.aload_n 0, 1) := dk_42 (dk_at dksX2_onWay_3 12 rfl rfl)
theorem dX2_onWay_83 : decode cX2_onWay 83 = .ok (.iload 5, 2) := dk_21 5 (dk_at dksX2_onWay_3 13 rfl rfl)
theorem dX2_onWay_85 : decode cX2_onWay 85 = .ok (.invokevirtual 137, 3) := dk_182 0 137 (dk_at dksX2_onWay_3 15 rfl rfl)
theorem dX2_onWay_88 : decode cX2_onWay 88 = .ok (.istore 5, 2) := dk_54 5 (dk_at dksX2_onWay_3 18 rfl rfl)
theorem dX2_onWay_90 : decode cX2_onWay 90 = .ok (.iinc 6 1, 3) := dk_132 6 1 (dk_at dksX2_onWay_3 20 rfl rfl)
theorem dX2_onWay_93 : decode cX2_onWay 93 = .ok (.goto (-30), 3) := dk_167 255 226 (dk_at dksX2_onWay_4 0 rfl rfl)
theorem dX2_onWay_96 : decode cX2_onWay 96 = .ok (.iload 5, 2) := dk_21 5 (dk_at dksX2_onWay_4 3 rfl rfl)
theorem dX2_onWay_98 : decode cX2_onWay 98 = .ok (.iconst 2, 1) := dk_5 (dk_at dksX2_onWay_4 5 rfl rfl)
theorem dX2_onWay_99 : decode cX2_onWay 99 = .ok (.idiv, 1) := dk_108 (dk_at dksX2_onWay_4 6 rfl rfl)
theorem dX2_onWay_100 : decode cX2_onWay 100 = .ok (.ireturn, 1) := dk_172 (dk_at dksX2_onWay_4 7 rfl rfl)
abbrev cX2_looksBack : ByteArray := prog_11_method_37_code
def yX2_looksBack : MethodName := ⟨RX2, "looksBack", "(I)V"⟩
def dkwX2_looksBack_6 : List UInt8 := [132, 4, 1, 167, 255, 197, 132, 3, 1, 167, 255, 151, 132, 2, 1, 167, 255, 137, 177]
abbrev dktX2_looksBack_6 : List UInt8 := dkwX2_looksBack_6 ++ []
def dkwX2_looksBack_5 : List UInt8 := [180, 0, 31, 42, 29, 21, 4, 182, 0, 116, 46, 42, 29, 5, 108, 182, 0, 97, 96, 184, 0, 70, 79]
abbrev dktX2_looksBack_5 : List UInt8 := dkwX2_looksBack_5 ++ dktX2_looksBack_6
def dkwX2_looksBack_4 : List UInt8 := [42, 29, 21, 4, 182, 0, 113, 153, 0, 38, 42, 180, 0, 31, 29, 42, 180, 0, 31, 29, 46, 42]
abbrev dktX2_looksBack_4 : List UInt8 := dkwX2_looksBack_4 ++ dktX2_looksBack_5
def dkwX2_looksBack_3 : List UInt8 := [29, 4, 130, 46, 4, 96, 184, 0, 70, 79, 3, 54, 4, 21, 4, 42, 180, 0, 7, 4, 46, 162, 0, 54]
abbrev dktX2_looksBack_3 : List UInt8 := dkwX2_looksBack_3 ++ dktX2_looksBack_4
def dkwX2_looksBack_2 : List UInt8 := [180, 0, 7, 3, 46, 104, 162, 0, 99, 42, 180, 0, 31, 29, 42, 180, 0, 31, 29, 46, 42, 180, 0, 31]
abbrev dktX2_looksBack_2 : List UInt8 := dkwX2_looksBack_2 ++ dktX2_looksBack_3
def dkwX2_looksBack_1 : List UInt8 := [17, 39, 15, 79, 132, 2, 1, 167, 255, 227, 3, 61, 28, 16, 20, 162, 0, 119, 3, 62, 29, 5, 42]
abbrev dktX2_looksBack_1 : List UInt8 := dkwX2_looksBack_1 ++ dktX2_looksBack_2
def dkwX2_looksBack_0 : List UInt8 := [3, 61, 28, 16, 20, 162, 0, 29, 42, 180, 0, 31, 28, 28, 5, 108, 27, 160, 0, 7, 3, 167, 0, 6]
abbrev dktX2_looksBack_0 : List UInt8 := dkwX2_looksBack_0 ++ dktX2_looksBack_1
theorem dksX2_looksBack_0 : cX2_looksBack.data.toList.drop 0 = dktX2_looksBack_0 := by decide +kernel
theorem dksX2_looksBack_1 : cX2_looksBack.data.toList.drop 24 = dktX2_looksBack_1 := dk_seg dksX2_looksBack_0 24 rfl rfl
theorem dksX2_looksBack_2 : cX2_looksBack.data.toList.drop 47 = dktX2_looksBack_2 := dk_seg dksX2_looksBack_1 23 rfl rfl
theorem dksX2_looksBack_3 : cX2_looksBack.data.toList.drop 71 = dktX2_looksBack_3 := dk_seg dksX2_looksBack_2 24 rfl rfl
theorem dksX2_looksBack_4 : cX2_looksBack.data.toList.drop 95 = dktX2_looksBack_4 := dk_seg dksX2_looksBack_3 24 rfl rfl
theorem dksX2_looksBack_5 : cX2_looksBack.data.toList.drop 117 = dktX2_looksBack_5 := dk_seg dksX2_looksBack_4 22 rfl rfl
theorem dksX2_looksBack_6 : cX2_looksBack.data.toList.drop 140 = dktX2_looksBack_6 := dk_seg dksX2_looksBack_5 23 rfl rfl
theorem dX2_looksBack_0 : decode cX2_looksBack 0 = .ok (.iconst 0, 1) := dk_3 (dk_at dksX2_looksBack_0 0 rfl rfl)
theorem dX2_looksBack_1 : decode cX2_looksBack 1 = .ok (.istore_n 2, 1) := dk_61 (dk_at dksX2_looksBack_0 1 rfl rfl)
theorem dX2_looksBack_2 : decode cX2_looksBack 2 = .ok (.iload_n 2, 1) := dk_28 (dk_at dksX2_looksBack_0 2 rfl rfl)
theorem dX2_looksBack_3 : decode cX2_looksBack 3 = .ok (.bipush 20, 2) := dk_16 20 (dk_at dksX2_looksBack_0 3 rfl rfl)
theorem dX2_looksBack_5 : decode cX2_looksBack 5 = .ok (.if_icmp .ge 29, 3) := dk_162 0 29 (dk_at dksX2_looksBack_0 5 rfl rfl)
theorem dX2_looksBack_8 : decode cX2_looksBack 8 = .ok (.aload_n 0, 1) := dk_42 (dk_at dksX2_looksBack_0 8 rfl rfl)
theorem dX2_looksBack_9 : decode cX2_looksBack 9 = .ok (.getfield 31, 3) := dk_180 0 31 (dk_at dksX2_looksBack_0 9 rfl rfl)
theorem dX2_looksBack_12 : decode cX2_looksBack 12 = .ok (.iload_n 2, 1) := dk_28 (dk_at dksX2_looksBack_0 12 rfl rfl)
theorem dX2_looksBack_13 : decode cX2_looksBack 13 = .ok (.iload_n 2, 1) := dk_28 (dk_at dksX2_looksBack_0 13 rfl rfl)
theorem dX2_looksBack_14 : decode cX2_looksBack 14 = .ok (.iconst 2, 1) := dk_5 (dk_at dksX2_looksBack_0 14 rfl rfl)
theorem dX2_looksBack_15 : decode cX2_looksBack 15 = .ok (.idiv, 1) := dk_108 (dk_at dksX2_looksBack_0 15 rfl rfl)
theorem dX2_looksBack_16 : decode cX2_looksBack 16 = .ok (.iload_n 1, 1) := dk_27 (dk_at dksX2_looksBack_0 16 rfl rfl)
theorem dX2_looksBack_17 : decode cX2_looksBack 17 = .ok (.if_icmp .ne 7, 3) := dk_160 0 7 (dk_at dksX2_looksBack_0 17 rfl rfl)
theorem dX2_looksBack_20 : decode cX2_looksBack 20 = .ok (.iconst 0, 1) := dk_3 (dk_at dksX2_looksBack_0 20 rfl rfl)
theorem dX2_looksBack_21 : decode cX2_looksBack 21 = .ok (.goto 6, 3) := dk_167 0 6 (dk_at dksX2_looksBack_0 21 rfl rfl)
theorem dX2_looksBack_24 : decode cX2_looksBack 24 = .ok (.sipush 9999, 3) := dk_17 39 15 (dk_at dksX2_looksBack_1 0 rfl rfl)
theorem dX2_looksBack_27 : decode cX2_looksBack 27 = .ok (.iastore, 1) := dk_79 (dk_at dksX2_looksBack_1 3 rfl rfl)
theorem dX2_looksBack_28 : decode cX2_looksBack 28 = .ok (.iinc 2 1, 3) := dk_132 2 1 (dk_at dksX2_looksBack_1 4 rfl rfl)
theorem dX2_looksBack_31 : decode cX2_looksBack 31 = .ok (.goto (-29), 3) := dk_167 255 227 (dk_at dksX2_looksBack_1 7 rfl rfl)
theorem dX2_looksBack_34 : decode cX2_looksBack 34 = .ok (.iconst 0, 1) := dk_3 (dk_at dksX2_looksBack_1 10 rfl rfl)
theorem dX2_looksBack_35 : decode cX2_looksBack 35 = .ok (.istore_n 2, 1) := dk_61 (dk_at dksX2_looksBack_1 11 rfl rfl)
theorem dX2_looksBack_36 : decode cX2_looksBack 36 = .ok (.iload_n 2, 1) := dk_28 (dk_at dksX2_looksBack_1 12 rfl rfl)
theorem dX2_looksBack_37 : decode cX2_looksBack 37 = .ok (.bipush 20, 2) := dk_16 20 (dk_at dksX2_looksBack_1 13 rfl rfl)
theorem dX2_looksBack_39 : decode cX2_looksBack 39 = .ok (.if_icmp .ge 119, 3) := dk_162 0 119 (dk_at dksX2_looksBack_1 15 rfl rfl)
theorem dX2_looksBack_42 : decode cX2_looksBack 42 = .ok (.iconst 0, 1) := dk_3 (dk_at dksX2_looksBack_1 18 rfl rfl)
theorem dX2_looksBack_43 : decode cX2_looksBack 43 = .ok (.istore_n 3, 1) := dk_62 (dk_at dksX2_looksBack_1 19 rfl rfl)
theorem dX2_looksBack_44 : decode cX2_looksBack 44 = .ok (.iload_n 3, 1) := dk_29 (dk_at dksX2_looksBack_1 20 rfl rfl)
theorem dX2_looksBack_45 : decode cX2_looksBack 45 = .ok (.iconst 2, 1) := dk_5 (dk_at dksX2_looksBack_1 21 rfl rfl)
theorem dX2_looksBack_46 : decode cX2_looksBack 46 = .ok (.aload_n 0, 1) := dk_42 (dk_at dksX2_looksBack_1 22 rfl rfl)
theorem dX2_looksBack_47 : decode cX2_looksBack 47 = .ok (.getfield 7, 3) := dk_180 0 7 (dk_at dksX2_looksBack_2 0 rfl rfl)
theorem dX2_looksBack_50 : decode cX2_looksBack 50 = .ok (.iconst 0, 1) := dk_3 (dk_at dksX2_looksBack_2 3 rfl rfl)
theorem dX2_looksBack_51 : decode cX2_looksBack 51 = .ok (.iaload, 1) := dk_46 (dk_at dksX2_looksBack_2 4 rfl rfl)
theorem dX2_looksBack_52 : decode cX2_looksBack 52 = .ok (.imul, 1) := dk_104 (dk_at dksX2_looksBack_2 5 rfl rfl)
theorem dX2_looksBack_53 : decode cX2_looksBack 53 = .ok (.if_icmp .ge 99, 3) := dk_162 0 99 (dk_at dksX2_looksBack_2 6 rfl rfl)
theorem dX2_looksBack_56 : decode cX2_looksBack 56 = .ok (.aload_n 0, 1) := dk_42 (dk_at dksX2_looksBack_2 9 rfl rfl)
theorem dX2_looksBack_57 : decode cX2_looksBack 57 = .ok (.getfield 31, 3) := dk_180 0 31 (dk_at dksX2_looksBack_2 10 rfl rfl)
theorem dX2_looksBack_60 : decode cX2_looksBack 60 = .ok (.iload_n 3, 1) := dk_29 (dk_at dksX2_looksBack_2 13 rfl rfl)
theorem dX2_looksBack_61 : decode cX2_looksBack 61 = .ok (.aload_n 0, 1) := dk_42 (dk_at dksX2_looksBack_2 14 rfl rfl)
theorem dX2_looksBack_62 : decode cX2_looksBack 62 = .ok (.getfield 31, 3) := dk_180 0 31 (dk_at dksX2_looksBack_2 15 rfl rfl)
theorem dX2_looksBack_65 : decode cX2_looksBack 65 = .ok (.iload_n 3, 1) := dk_29 (dk_at dksX2_looksBack_2 18 rfl rfl)
theorem dX2_looksBack_66 : decode cX2_looksBack 66 = .ok (.iaload, 1) := dk_46 (dk_at dksX2_looksBack_2 19 rfl rfl)
theorem dX2_looksBack_67 : decode cX2_looksBack 67 = .ok (.aload_n 0, 1) := dk_42 (dk_at dksX2_looksBack_2 20 rfl rfl)
theorem dX2_looksBack_68 : decode cX2_looksBack 68 = .ok (.getfield 31, 3) := dk_180 0 31 (dk_at dksX2_looksBack_2 21 rfl rfl)
theorem dX2_looksBack_71 : decode cX2_looksBack 71 = .ok (.iload_n 3, 1) := dk_29 (dk_at dksX2_looksBack_3 0 rfl rfl)
theorem dX2_looksBack_72 : decode cX2_looksBack 72 = .ok (.iconst 1, 1) := dk_4 (dk_at dksX2_looksBack_3 1 rfl rfl)
theorem dX2_looksBack_73 : decode cX2_looksBack 73 = .ok (.ixor, 1) := dk_130 (dk_at dksX2_looksBack_3 2 rfl rfl)
theorem dX2_looksBack_74 : decode cX2_looksBack 74 = .ok (.iaload, 1) := dk_46 (dk_at dksX2_looksBack_3 3 rfl rfl)
theorem dX2_looksBack_75 : decode cX2_looksBack 75 = .ok (.iconst 1, 1) := dk_4 (dk_at dksX2_looksBack_3 4 rfl rfl)
theorem dX2_looksBack_76 : decode cX2_looksBack 76 = .ok (.iadd, 1) := dk_96 (dk_at dksX2_looksBack_3 5 rfl rfl)
theorem dX2_looksBack_77 : decode cX2_looksBack 77 = .ok (.invokestatic 70, 3) := dk_184 0 70 (dk_at dksX2_looksBack_3 6 rfl rfl)
theorem dX2_looksBack_80 : decode cX2_looksBack 80 = .ok (.iastore, 1) := dk_79 (dk_at dksX2_looksBack_3 9 rfl rfl)
theorem dX2_looksBack_81 : decode cX2_looksBack 81 = .ok (.iconst 0, 1) := dk_3 (dk_at dksX2_looksBack_3 10 rfl rfl)
theorem dX2_looksBack_82 : decode cX2_looksBack 82 = .ok (.istore 4, 2) := dk_54 4 (dk_at dksX2_looksBack_3 11 rfl rfl)
theorem dX2_looksBack_84 : decode cX2_looksBack 84 = .ok (.iload 4, 2) := dk_21 4 (dk_at dksX2_looksBack_3 13 rfl rfl)
theorem dX2_looksBack_86 : decode cX2_looksBack 86 = .ok (.aload_n 0, 1) := dk_42 (dk_at dksX2_looksBack_3 15 rfl rfl)
theorem dX2_looksBack_87 : decode cX2_looksBack 87 = .ok (.getfield 7, 3) := dk_180 0 7 (dk_at dksX2_looksBack_3 16 rfl rfl)
theorem dX2_looksBack_90 : decode cX2_looksBack 90 = .ok (.iconst 1, 1) := dk_4 (dk_at dksX2_looksBack_3 19 rfl rfl)
theorem dX2_looksBack_91 : decode cX2_looksBack 91 = .ok (.iaload, 1) := dk_46 (dk_at dksX2_looksBack_3 20 rfl rfl)
theorem dX2_looksBack_92 : decode cX2_looksBack 92 = .ok (.if_icmp .ge 54, 3) := dk_162 0 54 (dk_at dksX2_looksBack_3 21 rfl rfl)
theorem dX2_looksBack_95 : decode cX2_looksBack 95 = .ok (.aload_n 0, 1) := dk_42 (dk_at dksX2_looksBack_4 0 rfl rfl)
theorem dX2_looksBack_96 : decode cX2_looksBack 96 = .ok (.iload_n 3, 1) := dk_29 (dk_at dksX2_looksBack_4 1 rfl rfl)
theorem dX2_looksBack_97 : decode cX2_looksBack 97 = .ok (.iload 4, 2) := dk_21 4 (dk_at dksX2_looksBack_4 2 rfl rfl)
theorem dX2_looksBack_99 : decode cX2_looksBack 99 = .ok (.invokevirtual 113, 3) := dk_182 0 113 (dk_at dksX2_looksBack_4 4 rfl rfl)
theorem dX2_looksBack_102 : decode cX2_looksBack 102 = .ok (.ifCond .eq 38, 3) := dk_153 0 38 (dk_at dksX2_looksBack_4 7 rfl rfl)
theorem dX2_looksBack_105 : decode cX2_looksBack 105 = .ok (.aload_n 0, 1) := dk_42 (dk_at dksX2_looksBack_4 10 rfl rfl)
theorem dX2_looksBack_106 : decode cX2_looksBack 106 = .ok (.getfield 31, 3) := dk_180 0 31 (dk_at dksX2_looksBack_4 11 rfl rfl)
theorem dX2_looksBack_109 : decode cX2_looksBack 109 = .ok (.iload_n 3, 1) := dk_29 (dk_at dksX2_looksBack_4 14 rfl rfl)
theorem dX2_looksBack_110 : decode cX2_looksBack 110 = .ok (.aload_n 0, 1) := dk_42 (dk_at dksX2_looksBack_4 15 rfl rfl)
theorem dX2_looksBack_111 : decode cX2_looksBack 111 = .ok (.getfield 31, 3) := dk_180 0 31 (dk_at dksX2_looksBack_4 16 rfl rfl)
theorem dX2_looksBack_114 : decode cX2_looksBack 114 = .ok (.iload_n 3, 1) := dk_29 (dk_at dksX2_looksBack_4 19 rfl rfl)
theorem dX2_looksBack_115 : decode cX2_looksBack 115 = .ok (.iaload, 1) := dk_46 (dk_at dksX2_looksBack_4 20 rfl rfl)
theorem dX2_looksBack_116 : decode cX2_looksBack 116 = .ok (.aload_n 0, 1) := dk_42 (dk_at dksX2_looksBack_4 21 rfl rfl)
theorem dX2_looksBack_117 : decode cX2_looksBack 117 = .ok (.getfield 31, 3) := dk_180 0 31 (dk_at dksX2_looksBack_5 0 rfl rfl)
theorem dX2_looksBack_120 : decode cX2_looksBack 120 = .ok (.aload_n 0, 1) := dk_42 (dk_at dksX2_looksBack_5 3 rfl rfl)
theorem dX2_looksBack_121 : decode cX2_looksBack 121 = .ok (.iload_n 3, 1) := dk_29 (dk_at dksX2_looksBack_5 4 rfl rfl)
theorem dX2_looksBack_122 : decode cX2_looksBack 122 = .ok (.iload 4, 2) := dk_21 4 (dk_at dksX2_looksBack_5 5 rfl rfl)
theorem dX2_looksBack_124 : decode cX2_looksBack 124 = .ok (.invokevirtual 116, 3) := dk_182 0 116 (dk_at dksX2_looksBack_5 7 rfl rfl)
theorem dX2_looksBack_127 : decode cX2_looksBack 127 = .ok (.iaload, 1) := dk_46 (dk_at dksX2_looksBack_5 10 rfl rfl)
theorem dX2_looksBack_128 : decode cX2_looksBack 128 = .ok (.aload_n 0, 1) := dk_42 (dk_at dksX2_looksBack_5 11 rfl rfl)
theorem dX2_looksBack_129 : decode cX2_looksBack 129 = .ok (.iload_n 3, 1) := dk_29 (dk_at dksX2_looksBack_5 12 rfl rfl)
theorem dX2_looksBack_130 : decode cX2_looksBack 130 = .ok (.iconst 2, 1) := dk_5 (dk_at dksX2_looksBack_5 13 rfl rfl)
theorem dX2_looksBack_131 : decode cX2_looksBack 131 = .ok (.idiv, 1) := dk_108 (dk_at dksX2_looksBack_5 14 rfl rfl)
theorem dX2_looksBack_132 : decode cX2_looksBack 132 = .ok (.invokevirtual 97, 3) := dk_182 0 97 (dk_at dksX2_looksBack_5 15 rfl rfl)
theorem dX2_looksBack_135 : decode cX2_looksBack 135 = .ok (.iadd, 1) := dk_96 (dk_at dksX2_looksBack_5 18 rfl rfl)
theorem dX2_looksBack_136 : decode cX2_looksBack 136 = .ok (.invokestatic 70, 3) := dk_184 0 70 (dk_at dksX2_looksBack_5 19 rfl rfl)
theorem dX2_looksBack_139 : decode cX2_looksBack 139 = .ok (.iastore, 1) := dk_79 (dk_at dksX2_looksBack_5 22 rfl rfl)
theorem dX2_looksBack_140 : decode cX2_looksBack 140 = .ok (.iinc 4 1, 3) := dk_132 4 1 (dk_at dksX2_looksBack_6 0 rfl rfl)
theorem dX2_looksBack_143 : decode cX2_looksBack 143 = .ok (.goto (-59), 3) := dk_167 255 197 (dk_at dksX2_looksBack_6 3 rfl rfl)
theorem dX2_looksBack_146 : decode cX2_looksBack 146 = .ok (.iinc 3 1, 3) := dk_132 3 1 (dk_at dksX2_looksBack_6 6 rfl rfl)
theorem dX2_looksBack_149 : decode cX2_looksBack 149 = .ok (.goto (-105), 3) := dk_167 255 151 (dk_at dksX2_looksBack_6 9 rfl rfl)
theorem dX2_looksBack_152 : decode cX2_looksBack 152 = .ok (.iinc 2 1, 3) := dk_132 2 1 (dk_at dksX2_looksBack_6 12 rfl rfl)
theorem dX2_looksBack_155 : decode cX2_looksBack 155 = .ok (.goto (-119), 3) := dk_167 255 137 (dk_at dksX2_looksBack_6 15 rfl rfl)
theorem dX2_looksBack_158 : decode cX2_looksBack 158 = .ok (.return_, 1) := dk_177 (dk_at dksX2_looksBack_6 18 rfl rfl)
abbrev cX2_goesOn : ByteArray := prog_11_method_38_code
def yX2_goesOn : MethodName := ⟨RX2, "goesOn", "(I)I"⟩
def dkwX2_goesOn_2 : List UInt8 := [160, 0, 10, 42, 27, 28, 182, 0, 116, 172, 132, 2, 1, 167, 255, 199, 27, 4, 130, 172]
abbrev dktX2_goesOn_2 : List UInt8 := dkwX2_goesOn_2 ++ []
def dkwX2_goesOn_1 : List UInt8 := [180, 0, 31, 42, 27, 28, 182, 0, 116, 46, 42, 27, 5, 108, 182, 0, 97, 96, 42, 180, 0, 31, 27, 46]
abbrev dktX2_goesOn_1 : List UInt8 := dkwX2_goesOn_1 ++ dktX2_goesOn_2
def dkwX2_goesOn_0 : List UInt8 := [3, 61, 28, 42, 180, 0, 7, 4, 46, 162, 0, 53, 42, 27, 28, 182, 0, 113, 153, 0, 38, 42]
abbrev dktX2_goesOn_0 : List UInt8 := dkwX2_goesOn_0 ++ dktX2_goesOn_1
theorem dksX2_goesOn_0 : cX2_goesOn.data.toList.drop 0 = dktX2_goesOn_0 := by decide +kernel
theorem dksX2_goesOn_1 : cX2_goesOn.data.toList.drop 22 = dktX2_goesOn_1 := dk_seg dksX2_goesOn_0 22 rfl rfl
theorem dksX2_goesOn_2 : cX2_goesOn.data.toList.drop 46 = dktX2_goesOn_2 := dk_seg dksX2_goesOn_1 24 rfl rfl
theorem dX2_goesOn_0 : decode cX2_goesOn 0 = .ok (.iconst 0, 1) := dk_3 (dk_at dksX2_goesOn_0 0 rfl rfl)
theorem dX2_goesOn_1 : decode cX2_goesOn 1 = .ok (.istore_n 2, 1) := dk_61 (dk_at dksX2_goesOn_0 1 rfl rfl)
theorem dX2_goesOn_2 : decode cX2_goesOn 2 = .ok (.iload_n 2, 1) := dk_28 (dk_at dksX2_goesOn_0 2 rfl rfl)
theorem dX2_goesOn_3 : decode cX2_goesOn 3 = .ok (.aload_n 0, 1) := dk_42 (dk_at dksX2_goesOn_0 3 rfl rfl)
theorem dX2_goesOn_4 : decode cX2_goesOn 4 = .ok (.getfield 7, 3) := dk_180 0 7 (dk_at dksX2_goesOn_0 4 rfl rfl)
theorem dX2_goesOn_7 : decode cX2_goesOn 7 = .ok (.iconst 1, 1) := dk_4 (dk_at dksX2_goesOn_0 7 rfl rfl)
theorem dX2_goesOn_8 : decode cX2_goesOn 8 = .ok (.iaload, 1) := dk_46 (dk_at dksX2_goesOn_0 8 rfl rfl)
theorem dX2_goesOn_9 : decode cX2_goesOn 9 = .ok (.if_icmp .ge 53, 3) := dk_162 0 53 (dk_at dksX2_goesOn_0 9 rfl rfl)
theorem dX2_goesOn_12 : decode cX2_goesOn 12 = .ok (.aload_n 0, 1) := dk_42 (dk_at dksX2_goesOn_0 12 rfl rfl)
theorem dX2_goesOn_13 : decode cX2_goesOn 13 = .ok (.iload_n 1, 1) := dk_27 (dk_at dksX2_goesOn_0 13 rfl rfl)
theorem dX2_goesOn_14 : decode cX2_goesOn 14 = .ok (.iload_n 2, 1) := dk_28 (dk_at dksX2_goesOn_0 14 rfl rfl)
theorem dX2_goesOn_15 : decode cX2_goesOn 15 = .ok (.invokevirtual 113, 3) := dk_182 0 113 (dk_at dksX2_goesOn_0 15 rfl rfl)
theorem dX2_goesOn_18 : decode cX2_goesOn 18 = .ok (.ifCond .eq 38, 3) := dk_153 0 38 (dk_at dksX2_goesOn_0 18 rfl rfl)
theorem dX2_goesOn_21 : decode cX2_goesOn 21 = .ok (.aload_n 0, 1) := dk_42 (dk_at dksX2_goesOn_0 21 rfl rfl)
theorem dX2_goesOn_22 : decode cX2_goesOn 22 = .ok (.getfield 31, 3) := dk_180 0 31 (dk_at dksX2_goesOn_1 0 rfl rfl)
theorem dX2_goesOn_25 : decode cX2_goesOn 25 = .ok (.aload_n 0, 1) := dk_42 (dk_at dksX2_goesOn_1 3 rfl rfl)
theorem dX2_goesOn_26 : decode cX2_goesOn 26 = .ok (.iload_n 1, 1) := dk_27 (dk_at dksX2_goesOn_1 4 rfl rfl)
theorem dX2_goesOn_27 : decode cX2_goesOn 27 = .ok (.iload_n 2, 1) := dk_28 (dk_at dksX2_goesOn_1 5 rfl rfl)
theorem dX2_goesOn_28 : decode cX2_goesOn 28 = .ok (.invokevirtual 116, 3) := dk_182 0 116 (dk_at dksX2_goesOn_1 6 rfl rfl)
theorem dX2_goesOn_31 : decode cX2_goesOn 31 = .ok (.iaload, 1) := dk_46 (dk_at dksX2_goesOn_1 9 rfl rfl)
theorem dX2_goesOn_32 : decode cX2_goesOn 32 = .ok (.aload_n 0, 1) := dk_42 (dk_at dksX2_goesOn_1 10 rfl rfl)
theorem dX2_goesOn_33 : decode cX2_goesOn 33 = .ok (.iload_n 1, 1) := dk_27 (dk_at dksX2_goesOn_1 11 rfl rfl)
theorem dX2_goesOn_34 : decode cX2_goesOn 34 = .ok (.iconst 2, 1) := dk_5 (dk_at dksX2_goesOn_1 12 rfl rfl)
theorem dX2_goesOn_35 : decode cX2_goesOn 35 = .ok (.idiv, 1) := dk_108 (dk_at dksX2_goesOn_1 13 rfl rfl)
theorem dX2_goesOn_36 : decode cX2_goesOn 36 = .ok (.invokevirtual 97, 3) := dk_182 0 97 (dk_at dksX2_goesOn_1 14 rfl rfl)
theorem dX2_goesOn_39 : decode cX2_goesOn 39 = .ok (.iadd, 1) := dk_96 (dk_at dksX2_goesOn_1 17 rfl rfl)
theorem dX2_goesOn_40 : decode cX2_goesOn 40 = .ok (.aload_n 0, 1) := dk_42 (dk_at dksX2_goesOn_1 18 rfl rfl)
theorem dX2_goesOn_41 : decode cX2_goesOn 41 = .ok (.getfield 31, 3) := dk_180 0 31 (dk_at dksX2_goesOn_1 19 rfl rfl)
theorem dX2_goesOn_44 : decode cX2_goesOn 44 = .ok (.iload_n 1, 1) := dk_27 (dk_at dksX2_goesOn_1 22 rfl rfl)
theorem dX2_goesOn_45 : decode cX2_goesOn 45 = .ok (.iaload, 1) := dk_46 (dk_at dksX2_goesOn_1 23 rfl rfl)
theorem dX2_goesOn_46 : decode cX2_goesOn 46 = .ok (.if_icmp .ne 10, 3) := dk_160 0 10 (dk_at dksX2_goesOn_2 0 rfl rfl)
theorem dX2_goesOn_49 : decode cX2_goesOn 49 = .ok (.aload_n 0, 1) := dk_42 (dk_at dksX2_goesOn_2 3 rfl rfl)
theorem dX2_goesOn_50 : decode cX2_goesOn 50 = .ok (.iload_n 1, 1) := dk_27 (dk_at dksX2_goesOn_2 4 rfl rfl)
theorem dX2_goesOn_51 : decode cX2_goesOn 51 = .ok (.iload_n 2, 1) := dk_28 (dk_at dksX2_goesOn_2 5 rfl rfl)
theorem dX2_goesOn_52 : decode cX2_goesOn 52 = .ok (.invokevirtual 116, 3) := dk_182 0 116 (dk_at dksX2_goesOn_2 6 rfl rfl)
theorem dX2_goesOn_55 : decode cX2_goesOn 55 = .ok (.ireturn, 1) := dk_172 (dk_at dksX2_goesOn_2 9 rfl rfl)
theorem dX2_goesOn_56 : decode cX2_goesOn 56 = .ok (.iinc 2 1, 3) := dk_132 2 1 (dk_at dksX2_goesOn_2 10 rfl rfl)
theorem dX2_goesOn_59 : decode cX2_goesOn 59 = .ok (.goto (-57), 3) := dk_167 255 199 (dk_at dksX2_goesOn_2 13 rfl rfl)
theorem dX2_goesOn_62 : decode cX2_goesOn 62 = .ok (.iload_n 1, 1) := dk_27 (dk_at dksX2_goesOn_2 16 rfl rfl)
theorem dX2_goesOn_63 : decode cX2_goesOn 63 = .ok (.iconst 1, 1) := dk_4 (dk_at dksX2_goesOn_2 17 rfl rfl)
theorem dX2_goesOn_64 : decode cX2_goesOn 64 = .ok (.ixor, 1) := dk_130 (dk_at dksX2_goesOn_2 18 rfl rfl)
theorem dX2_goesOn_65 : decode cX2_goesOn 65 = .ok (.ireturn, 1) := dk_172 (dk_at dksX2_goesOn_2 19 rfl rfl)
abbrev cX2_longerBack : ByteArray := prog_11_method_40_code
def yX2_longerBack : MethodName := ⟨RX2, "longerBack", "(III)I"⟩
def dkwX2_longerBack_1 : List UInt8 := [5, 112, 182, 0, 129, 21, 4, 100, 172]
abbrev dktX2_longerBack_1 : List UInt8 := dkwX2_longerBack_1 ++ []
def dkwX2_longerBack_0 : List UInt8 := [42, 27, 28, 29, 182, 0, 129, 54, 4, 21, 4, 156, 0, 6, 21, 4, 172, 42, 28, 27, 29, 21, 4, 96]
abbrev dktX2_longerBack_0 : List UInt8 := dkwX2_longerBack_0 ++ dktX2_longerBack_1
theorem dksX2_longerBack_0 : cX2_longerBack.data.toList.drop 0 = dktX2_longerBack_0 := by decide +kernel
theorem dksX2_longerBack_1 : cX2_longerBack.data.toList.drop 24 = dktX2_longerBack_1 := dk_seg dksX2_longerBack_0 24 rfl rfl
theorem dX2_longerBack_0 : decode cX2_longerBack 0 = .ok (.aload_n 0, 1) := dk_42 (dk_at dksX2_longerBack_0 0 rfl rfl)
theorem dX2_longerBack_1 : decode cX2_longerBack 1 = .ok (.iload_n 1, 1) := dk_27 (dk_at dksX2_longerBack_0 1 rfl rfl)
theorem dX2_longerBack_2 : decode cX2_longerBack 2 = .ok (.iload_n 2, 1) := dk_28 (dk_at dksX2_longerBack_0 2 rfl rfl)
theorem dX2_longerBack_3 : decode cX2_longerBack 3 = .ok (.iload_n 3, 1) := dk_29 (dk_at dksX2_longerBack_0 3 rfl rfl)
theorem dX2_longerBack_4 : decode cX2_longerBack 4 = .ok (.invokevirtual 129, 3) := dk_182 0 129 (dk_at dksX2_longerBack_0 4 rfl rfl)
theorem dX2_longerBack_7 : decode cX2_longerBack 7 = .ok (.istore 4, 2) := dk_54 4 (dk_at dksX2_longerBack_0 7 rfl rfl)
theorem dX2_longerBack_9 : decode cX2_longerBack 9 = .ok (.iload 4, 2) := dk_21 4 (dk_at dksX2_longerBack_0 9 rfl rfl)
theorem dX2_longerBack_11 : decode cX2_longerBack 11 = .ok (.ifCond .ge 6, 3) := dk_156 0 6 (dk_at dksX2_longerBack_0 11 rfl rfl)
theorem dX2_longerBack_14 : decode cX2_longerBack 14 = .ok (.iload 4, 2) := dk_21 4 (dk_at dksX2_longerBack_0 14 rfl rfl)
theorem dX2_longerBack_16 : decode cX2_longerBack 16 = .ok (.ireturn, 1) := dk_172 (dk_at dksX2_longerBack_0 16 rfl rfl)
theorem dX2_longerBack_17 : decode cX2_longerBack 17 = .ok (.aload_n 0, 1) := dk_42 (dk_at dksX2_longerBack_0 17 rfl rfl)
theorem dX2_longerBack_18 : decode cX2_longerBack 18 = .ok (.iload_n 2, 1) := dk_28 (dk_at dksX2_longerBack_0 18 rfl rfl)
theorem dX2_longerBack_19 : decode cX2_longerBack 19 = .ok (.iload_n 1, 1) := dk_27 (dk_at dksX2_longerBack_0 19 rfl rfl)
theorem dX2_longerBack_20 : decode cX2_longerBack 20 = .ok (.iload_n 3, 1) := dk_29 (dk_at dksX2_longerBack_0 20 rfl rfl)
theorem dX2_longerBack_21 : decode cX2_longerBack 21 = .ok (.iload 4, 2) := dk_21 4 (dk_at dksX2_longerBack_0 21 rfl rfl)
theorem dX2_longerBack_23 : decode cX2_longerBack 23 = .ok (.iadd, 1) := dk_96 (dk_at dksX2_longerBack_0 23 rfl rfl)
theorem dX2_longerBack_24 : decode cX2_longerBack 24 = .ok (.iconst 2, 1) := dk_5 (dk_at dksX2_longerBack_1 0 rfl rfl)
theorem dX2_longerBack_25 : decode cX2_longerBack 25 = .ok (.irem, 1) := dk_112 (dk_at dksX2_longerBack_1 1 rfl rfl)
theorem dX2_longerBack_26 : decode cX2_longerBack 26 = .ok (.invokevirtual 129, 3) := dk_182 0 129 (dk_at dksX2_longerBack_1 2 rfl rfl)
theorem dX2_longerBack_29 : decode cX2_longerBack 29 = .ok (.iload 4, 2) := dk_21 4 (dk_at dksX2_longerBack_1 5 rfl rfl)
theorem dX2_longerBack_31 : decode cX2_longerBack 31 = .ok (.isub, 1) := dk_100 (dk_at dksX2_longerBack_1 7 rfl rfl)
theorem dX2_longerBack_32 : decode cX2_longerBack 32 = .ok (.ireturn, 1) := dk_172 (dk_at dksX2_longerBack_1 8 rfl rfl)
abbrev cX2_roomOf : ByteArray := prog_11_method_43_code
def yX2_roomOf : MethodName := ⟨RX2, "roomOf", "(II)I"⟩
def dkwX2_roomOf_4 : List UInt8 := [167, 0, 8, 42, 27, 182, 0, 126, 172]
abbrev dktX2_roomOf_4 : List UInt8 := dkwX2_roomOf_4 ++ []
def dkwX2_roomOf_3 : List UInt8 := [167, 0, 4, 3, 172, 42, 4, 182, 0, 140, 42, 27, 182, 0, 126, 17, 39, 15, 160, 0, 9, 17, 252, 9]
abbrev dktX2_roomOf_3 : List UInt8 := dkwX2_roomOf_3 ++ dktX2_roomOf_4
def dkwX2_roomOf_2 : List UInt8 := [7, 160, 0, 9, 42, 27, 182, 0, 144, 172, 28, 8, 160, 0, 17, 42, 27, 182, 0, 147, 153, 0, 7, 4]
abbrev dktX2_roomOf_2 : List UInt8 := dkwX2_roomOf_2 ++ dktX2_roomOf_3
def dkwX2_roomOf_1 : List UInt8 := [17, 252, 12, 172, 28, 7, 162, 0, 17, 42, 180, 0, 7, 16, 10, 7, 27, 104, 96, 28, 96, 46, 172, 28]
abbrev dktX2_roomOf_1 : List UInt8 := dkwX2_roomOf_1 ++ dktX2_roomOf_2
def dkwX2_roomOf_0 : List UInt8 := [42, 27, 182, 0, 76, 154, 0, 7, 17, 252, 13, 172, 28, 3, 16, 6, 184, 0, 55, 154, 0, 7]
abbrev dktX2_roomOf_0 : List UInt8 := dkwX2_roomOf_0 ++ dktX2_roomOf_1
theorem dksX2_roomOf_0 : cX2_roomOf.data.toList.drop 0 = dktX2_roomOf_0 := by decide +kernel
theorem dksX2_roomOf_1 : cX2_roomOf.data.toList.drop 22 = dktX2_roomOf_1 := dk_seg dksX2_roomOf_0 22 rfl rfl
theorem dksX2_roomOf_2 : cX2_roomOf.data.toList.drop 46 = dktX2_roomOf_2 := dk_seg dksX2_roomOf_1 24 rfl rfl
theorem dksX2_roomOf_3 : cX2_roomOf.data.toList.drop 70 = dktX2_roomOf_3 := dk_seg dksX2_roomOf_2 24 rfl rfl
theorem dksX2_roomOf_4 : cX2_roomOf.data.toList.drop 94 = dktX2_roomOf_4 := dk_seg dksX2_roomOf_3 24 rfl rfl
theorem dX2_roomOf_0 : decode cX2_roomOf 0 = .ok (.aload_n 0, 1) := dk_42 (dk_at dksX2_roomOf_0 0 rfl rfl)
theorem dX2_roomOf_1 : decode cX2_roomOf 1 = .ok (.iload_n 1, 1) := dk_27 (dk_at dksX2_roomOf_0 1 rfl rfl)
theorem dX2_roomOf_2 : decode cX2_roomOf 2 = .ok (.invokevirtual 76, 3) := dk_182 0 76 (dk_at dksX2_roomOf_0 2 rfl rfl)
theorem dX2_roomOf_5 : decode cX2_roomOf 5 = .ok (.ifCond .ne 7, 3) := dk_154 0 7 (dk_at dksX2_roomOf_0 5 rfl rfl)
theorem dX2_roomOf_8 : decode cX2_roomOf 8 = .ok (.sipush (-1011), 3) := dk_17 252 13 (dk_at dksX2_roomOf_0 8 rfl rfl)
theorem dX2_roomOf_11 : decode cX2_roomOf 11 = .ok (.ireturn, 1) := dk_172 (dk_at dksX2_roomOf_0 11 rfl rfl)
theorem dX2_roomOf_12 : decode cX2_roomOf 12 = .ok (.iload_n 2, 1) := dk_28 (dk_at dksX2_roomOf_0 12 rfl rfl)
theorem dX2_roomOf_13 : decode cX2_roomOf 13 = .ok (.iconst 0, 1) := dk_3 (dk_at dksX2_roomOf_0 13 rfl rfl)
theorem dX2_roomOf_14 : decode cX2_roomOf 14 = .ok (.bipush 6, 2) := dk_16 6 (dk_at dksX2_roomOf_0 14 rfl rfl)
theorem dX2_roomOf_16 : decode cX2_roomOf 16 = .ok (.invokestatic 55, 3) := dk_184 0 55 (dk_at dksX2_roomOf_0 16 rfl rfl)
theorem dX2_roomOf_19 : decode cX2_roomOf 19 = .ok (.ifCond .ne 7, 3) := dk_154 0 7 (dk_at dksX2_roomOf_0 19 rfl rfl)
theorem dX2_roomOf_22 : decode cX2_roomOf 22 = .ok (.sipush (-1012), 3) := dk_17 252 12 (dk_at dksX2_roomOf_1 0 rfl rfl)
theorem dX2_roomOf_25 : decode cX2_roomOf 25 = .ok (.ireturn, 1) := dk_172 (dk_at dksX2_roomOf_1 3 rfl rfl)
theorem dX2_roomOf_26 : decode cX2_roomOf 26 = .ok (.iload_n 2, 1) := dk_28 (dk_at dksX2_roomOf_1 4 rfl rfl)
theorem dX2_roomOf_27 : decode cX2_roomOf 27 = .ok (.iconst 4, 1) := dk_7 (dk_at dksX2_roomOf_1 5 rfl rfl)
theorem dX2_roomOf_28 : decode cX2_roomOf 28 = .ok (.if_icmp .ge 17, 3) := dk_162 0 17 (dk_at dksX2_roomOf_1 6 rfl rfl)
theorem dX2_roomOf_31 : decode cX2_roomOf 31 = .ok (.aload_n 0, 1) := dk_42 (dk_at dksX2_roomOf_1 9 rfl rfl)
theorem dX2_roomOf_32 : decode cX2_roomOf 32 = .ok (.getfield 7, 3) := dk_180 0 7 (dk_at dksX2_roomOf_1 10 rfl rfl)
theorem dX2_roomOf_35 : decode cX2_roomOf 35 = .ok (.bipush 10, 2) := dk_16 10 (dk_at dksX2_roomOf_1 13 rfl rfl)
theorem dX2_roomOf_37 : decode cX2_roomOf 37 = .ok (.iconst 4, 1) := dk_7 (dk_at dksX2_roomOf_1 15 rfl rfl)
theorem dX2_roomOf_38 : decode cX2_roomOf 38 = .ok (.iload_n 1, 1) := dk_27 (dk_at dksX2_roomOf_1 16 rfl rfl)
theorem dX2_roomOf_39 : decode cX2_roomOf 39 = .ok (.imul, 1) := dk_104 (dk_at dksX2_roomOf_1 17 rfl rfl)
theorem dX2_roomOf_40 : decode cX2_roomOf 40 = .ok (.iadd, 1) := dk_96 (dk_at dksX2_roomOf_1 18 rfl rfl)
theorem dX2_roomOf_41 : decode cX2_roomOf 41 = .ok (.iload_n 2, 1) := dk_28 (dk_at dksX2_roomOf_1 19 rfl rfl)
theorem dX2_roomOf_42 : decode cX2_roomOf 42 = .ok (.iadd, 1) := dk_96 (dk_at dksX2_roomOf_1 20 rfl rfl)
theorem dX2_roomOf_43 : decode cX2_roomOf 43 = .ok (.iaload, 1) := dk_46 (dk_at dksX2_roomOf_1 21 rfl rfl)
theorem dX2_roomOf_44 : decode cX2_roomOf 44 = .ok (.ireturn, 1) := dk_172 (dk_at dksX2_roomOf_1 22 rfl rfl)
theorem dX2_roomOf_45 : decode cX2_roomOf 45 = .ok (.iload_n 2, 1) := dk_28 (dk_at dksX2_roomOf_1 23 rfl rfl)
theorem dX2_roomOf_46 : decode cX2_roomOf 46 = .ok (.iconst 4, 1) := dk_7 (dk_at dksX2_roomOf_2 0 rfl rfl)
theorem dX2_roomOf_47 : decode cX2_roomOf 47 = .ok (.if_icmp .ne 9, 3) := dk_160 0 9 (dk_at dksX2_roomOf_2 1 rfl rfl)
theorem dX2_roomOf_50 : decode cX2_roomOf 50 = .ok (.aload_n 0, 1) := dk_42 (dk_at dksX2_roomOf_2 4 rfl rfl)
theorem dX2_roomOf_51 : decode cX2_roomOf 51 = .ok (.iload_n 1, 1) := dk_27 (dk_at dksX2_roomOf_2 5 rfl rfl)
theorem dX2_roomOf_52 : decode cX2_roomOf 52 = .ok (.invokevirtual 144, 3) := dk_182 0 144 (dk_at dksX2_roomOf_2 6 rfl rfl)
theorem dX2_roomOf_55 : decode cX2_roomOf 55 = .ok (.ireturn, 1) := dk_172 (dk_at dksX2_roomOf_2 9 rfl rfl)
theorem dX2_roomOf_56 : decode cX2_roomOf 56 = .ok (.iload_n 2, 1) := dk_28 (dk_at dksX2_roomOf_2 10 rfl rfl)
theorem dX2_roomOf_57 : decode cX2_roomOf 57 = .ok (.iconst 5, 1) := dk_8 (dk_at dksX2_roomOf_2 11 rfl rfl)
theorem dX2_roomOf_58 : decode cX2_roomOf 58 = .ok (.if_icmp .ne 17, 3) := dk_160 0 17 (dk_at dksX2_roomOf_2 12 rfl rfl)
theorem dX2_roomOf_61 : decode cX2_roomOf 61 = .ok (.aload_n 0, 1) := dk_42 (dk_at dksX2_roomOf_2 15 rfl rfl)
theorem dX2_roomOf_62 : decode cX2_roomOf 62 = .ok (.iload_n 1, 1) := dk_27 (dk_at dksX2_roomOf_2 16 rfl rfl)
theorem dX2_roomOf_63 : decode cX2_roomOf 63 = .ok (.invokevirtual 147, 3) := dk_182 0 147 (dk_at dksX2_roomOf_2 17 rfl rfl)
theorem dX2_roomOf_66 : decode cX2_roomOf 66 = .ok (.ifCond .eq 7, 3) := dk_153 0 7 (dk_at dksX2_roomOf_2 20 rfl rfl)
theorem dX2_roomOf_69 : decode cX2_roomOf 69 = .ok (.iconst 1, 1) := dk_4 (dk_at dksX2_roomOf_2 23 rfl rfl)
theorem dX2_roomOf_70 : decode cX2_roomOf 70 = .ok (.goto 4, 3) := dk_167 0 4 (dk_at dksX2_roomOf_3 0 rfl rfl)
theorem dX2_roomOf_73 : decode cX2_roomOf 73 = .ok (.iconst 0, 1) := dk_3 (dk_at dksX2_roomOf_3 3 rfl rfl)
theorem dX2_roomOf_74 : decode cX2_roomOf 74 = .ok (.ireturn, 1) := dk_172 (dk_at dksX2_roomOf_3 4 rfl rfl)
theorem dX2_roomOf_75 : decode cX2_roomOf 75 = .ok (.aload_n 0, 1) := dk_42 (dk_at dksX2_roomOf_3 5 rfl rfl)
theorem dX2_roomOf_76 : decode cX2_roomOf 76 = .ok (.iconst 1, 1) := dk_4 (dk_at dksX2_roomOf_3 6 rfl rfl)
theorem dX2_roomOf_77 : decode cX2_roomOf 77 = .ok (.invokevirtual 140, 3) := dk_182 0 140 (dk_at dksX2_roomOf_3 7 rfl rfl)
theorem dX2_roomOf_80 : decode cX2_roomOf 80 = .ok (.aload_n 0, 1) := dk_42 (dk_at dksX2_roomOf_3 10 rfl rfl)
theorem dX2_roomOf_81 : decode cX2_roomOf 81 = .ok (.iload_n 1, 1) := dk_27 (dk_at dksX2_roomOf_3 11 rfl rfl)
theorem dX2_roomOf_82 : decode cX2_roomOf 82 = .ok (.invokevirtual 126, 3) := dk_182 0 126 (dk_at dksX2_roomOf_3 12 rfl rfl)
theorem dX2_roomOf_85 : decode cX2_roomOf 85 = .ok (.sipush 9999, 3) := dk_17 39 15 (dk_at dksX2_roomOf_3 15 rfl rfl)
theorem dX2_roomOf_88 : decode cX2_roomOf 88 = .ok (.if_icmp .ne 9, 3) := dk_160 0 9 (dk_at dksX2_roomOf_3 18 rfl rfl)
theorem dX2_roomOf_91 : decode cX2_roomOf 91 = .ok (.sipush (-1015), 3) := dk_17 252 9 (dk_at dksX2_roomOf_3 21 rfl rfl)
theorem dX2_roomOf_94 : decode cX2_roomOf 94 = .ok (.goto 8, 3) := dk_167 0 8 (dk_at dksX2_roomOf_4 0 rfl rfl)
theorem dX2_roomOf_97 : decode cX2_roomOf 97 = .ok (.aload_n 0, 1) := dk_42 (dk_at dksX2_roomOf_4 3 rfl rfl)
theorem dX2_roomOf_98 : decode cX2_roomOf 98 = .ok (.iload_n 1, 1) := dk_27 (dk_at dksX2_roomOf_4 4 rfl rfl)
theorem dX2_roomOf_99 : decode cX2_roomOf 99 = .ok (.invokevirtual 126, 3) := dk_182 0 126 (dk_at dksX2_roomOf_4 5 rfl rfl)
theorem dX2_roomOf_102 : decode cX2_roomOf 102 = .ok (.ireturn, 1) := dk_172 (dk_at dksX2_roomOf_4 8 rfl rfl)
abbrev cX2_doorsOf : ByteArray := prog_11_method_19_code
def yX2_doorsOf : MethodName := ⟨RX2, "doorsOf", "(I)I"⟩
def dkwX2_doorsOf_1 : List UInt8 := [4, 167, 0, 4, 3, 96, 61, 132, 3, 1, 167, 255, 226, 28, 172]
abbrev dktX2_doorsOf_1 : List UInt8 := dkwX2_doorsOf_1 ++ []
def dkwX2_doorsOf_0 : List UInt8 := [3, 61, 3, 62, 29, 42, 180, 0, 7, 4, 46, 162, 0, 26, 28, 42, 27, 29, 182, 0, 90, 153, 0, 7]
abbrev dktX2_doorsOf_0 : List UInt8 := dkwX2_doorsOf_0 ++ dktX2_doorsOf_1
theorem dksX2_doorsOf_0 : cX2_doorsOf.data.toList.drop 0 = dktX2_doorsOf_0 := by decide +kernel
theorem dksX2_doorsOf_1 : cX2_doorsOf.data.toList.drop 24 = dktX2_doorsOf_1 := dk_seg dksX2_doorsOf_0 24 rfl rfl
theorem dX2_doorsOf_0 : decode cX2_doorsOf 0 = .ok (.iconst 0, 1) := dk_3 (dk_at dksX2_doorsOf_0 0 rfl rfl)
theorem dX2_doorsOf_1 : decode cX2_doorsOf 1 = .ok (.istore_n 2, 1) := dk_61 (dk_at dksX2_doorsOf_0 1 rfl rfl)
theorem dX2_doorsOf_2 : decode cX2_doorsOf 2 = .ok (.iconst 0, 1) := dk_3 (dk_at dksX2_doorsOf_0 2 rfl rfl)
theorem dX2_doorsOf_3 : decode cX2_doorsOf 3 = .ok (.istore_n 3, 1) := dk_62 (dk_at dksX2_doorsOf_0 3 rfl rfl)
theorem dX2_doorsOf_4 : decode cX2_doorsOf 4 = .ok (.iload_n 3, 1) := dk_29 (dk_at dksX2_doorsOf_0 4 rfl rfl)
theorem dX2_doorsOf_5 : decode cX2_doorsOf 5 = .ok (.aload_n 0, 1) := dk_42 (dk_at dksX2_doorsOf_0 5 rfl rfl)
theorem dX2_doorsOf_6 : decode cX2_doorsOf 6 = .ok (.getfield 7, 3) := dk_180 0 7 (dk_at dksX2_doorsOf_0 6 rfl rfl)
theorem dX2_doorsOf_9 : decode cX2_doorsOf 9 = .ok (.iconst 1, 1) := dk_4 (dk_at dksX2_doorsOf_0 9 rfl rfl)
theorem dX2_doorsOf_10 : decode cX2_doorsOf 10 = .ok (.iaload, 1) := dk_46 (dk_at dksX2_doorsOf_0 10 rfl rfl)
theorem dX2_doorsOf_11 : decode cX2_doorsOf 11 = .ok (.if_icmp .ge 26, 3) := dk_162 0 26 (dk_at dksX2_doorsOf_0 11 rfl rfl)
theorem dX2_doorsOf_14 : decode cX2_doorsOf 14 = .ok (.iload_n 2, 1) := dk_28 (dk_at dksX2_doorsOf_0 14 rfl rfl)
theorem dX2_doorsOf_15 : decode cX2_doorsOf 15 = .ok (.aload_n 0, 1) := dk_42 (dk_at dksX2_doorsOf_0 15 rfl rfl)
theorem dX2_doorsOf_16 : decode cX2_doorsOf 16 = .ok (.iload_n 1, 1) := dk_27 (dk_at dksX2_doorsOf_0 16 rfl rfl)
theorem dX2_doorsOf_17 : decode cX2_doorsOf 17 = .ok (.iload_n 3, 1) := dk_29 (dk_at dksX2_doorsOf_0 17 rfl rfl)
theorem dX2_doorsOf_18 : decode cX2_doorsOf 18 = .ok (.invokevirtual 90, 3) := dk_182 0 90 (dk_at dksX2_doorsOf_0 18 rfl rfl)
theorem dX2_doorsOf_21 : decode cX2_doorsOf 21 = .ok (.ifCond .eq 7, 3) := dk_153 0 7 (dk_at dksX2_doorsOf_0 21 rfl rfl)
theorem dX2_doorsOf_24 : decode cX2_doorsOf 24 = .ok (.iconst 1, 1) := dk_4 (dk_at dksX2_doorsOf_1 0 rfl rfl)
theorem dX2_doorsOf_25 : decode cX2_doorsOf 25 = .ok (.goto 4, 3) := dk_167 0 4 (dk_at dksX2_doorsOf_1 1 rfl rfl)
theorem dX2_doorsOf_28 : decode cX2_doorsOf 28 = .ok (.iconst 0, 1) := dk_3 (dk_at dksX2_doorsOf_1 4 rfl rfl)
theorem dX2_doorsOf_29 : decode cX2_doorsOf 29 = .ok (.iadd, 1) := dk_96 (dk_at dksX2_doorsOf_1 5 rfl rfl)
theorem dX2_doorsOf_30 : decode cX2_doorsOf 30 = .ok (.istore_n 2, 1) := dk_61 (dk_at dksX2_doorsOf_1 6 rfl rfl)
theorem dX2_doorsOf_31 : decode cX2_doorsOf 31 = .ok (.iinc 3 1, 3) := dk_132 3 1 (dk_at dksX2_doorsOf_1 7 rfl rfl)
theorem dX2_doorsOf_34 : decode cX2_doorsOf 34 = .ok (.goto (-30), 3) := dk_167 255 226 (dk_at dksX2_doorsOf_1 10 rfl rfl)
theorem dX2_doorsOf_37 : decode cX2_doorsOf 37 = .ok (.iload_n 2, 1) := dk_28 (dk_at dksX2_doorsOf_1 13 rfl rfl)
theorem dX2_doorsOf_38 : decode cX2_doorsOf 38 = .ok (.ireturn, 1) := dk_172 (dk_at dksX2_doorsOf_1 14 rfl rfl)
abbrev cX2_isDoubled : ByteArray := prog_11_method_42_code
def yX2_isDoubled : MethodName := ⟨RX2, "isDoubled", "(I)Z"⟩
def dkwX2_isDoubled_1 : List UInt8 := [27, 104, 4, 96, 46, 17, 39, 15, 162, 0, 7, 4, 167, 0, 4, 3, 172]
abbrev dktX2_isDoubled_1 : List UInt8 := dkwX2_isDoubled_1 ++ []
def dkwX2_isDoubled_0 : List UInt8 := [42, 3, 182, 0, 140, 42, 180, 0, 28, 5, 27, 104, 46, 17, 39, 15, 162, 0, 23, 42, 180, 0, 28, 5]
abbrev dktX2_isDoubled_0 : List UInt8 := dkwX2_isDoubled_0 ++ dktX2_isDoubled_1
theorem dksX2_isDoubled_0 : cX2_isDoubled.data.toList.drop 0 = dktX2_isDoubled_0 := by decide +kernel
theorem dksX2_isDoubled_1 : cX2_isDoubled.data.toList.drop 24 = dktX2_isDoubled_1 := dk_seg dksX2_isDoubled_0 24 rfl rfl
theorem dX2_isDoubled_0 : decode cX2_isDoubled 0 = .ok (.aload_n 0, 1) := dk_42 (dk_at dksX2_isDoubled_0 0 rfl rfl)
theorem dX2_isDoubled_1 : decode cX2_isDoubled 1 = .ok (.iconst 0, 1) := dk_3 (dk_at dksX2_isDoubled_0 1 rfl rfl)
theorem dX2_isDoubled_2 : decode cX2_isDoubled 2 = .ok (.invokevirtual 140, 3) := dk_182 0 140 (dk_at dksX2_isDoubled_0 2 rfl rfl)
theorem dX2_isDoubled_5 : decode cX2_isDoubled 5 = .ok (.aload_n 0, 1) := dk_42 (dk_at dksX2_isDoubled_0 5 rfl rfl)
theorem dX2_isDoubled_6 : decode cX2_isDoubled 6 = .ok (.getfield 28, 3) := dk_180 0 28 (dk_at dksX2_isDoubled_0 6 rfl rfl)
theorem dX2_isDoubled_9 : decode cX2_isDoubled 9 = .ok (.iconst 2, 1) := dk_5 (dk_at dksX2_isDoubled_0 9 rfl rfl)
theorem dX2_isDoubled_10 : decode cX2_isDoubled 10 = .ok (.iload_n 1, 1) := dk_27 (dk_at dksX2_isDoubled_0 10 rfl rfl)
theorem dX2_isDoubled_11 : decode cX2_isDoubled 11 = .ok (.imul, 1) := dk_104 (dk_at dksX2_isDoubled_0 11 rfl rfl)
theorem dX2_isDoubled_12 : decode cX2_isDoubled 12 = .ok (.iaload, 1) := dk_46 (dk_at dksX2_isDoubled_0 12 rfl rfl)
theorem dX2_isDoubled_13 : decode cX2_isDoubled 13 = .ok (.sipush 9999, 3) := dk_17 39 15 (dk_at dksX2_isDoubled_0 13 rfl rfl)
theorem dX2_isDoubled_16 : decode cX2_isDoubled 16 = .ok (.if_icmp .ge 23, 3) := dk_162 0 23 (dk_at dksX2_isDoubled_0 16 rfl rfl)
theorem dX2_isDoubled_19 : decode cX2_isDoubled 19 = .ok (.aload_n 0, 1) := dk_42 (dk_at dksX2_isDoubled_0 19 rfl rfl)
theorem dX2_isDoubled_20 : decode cX2_isDoubled 20 = .ok (.getfield 28, 3) := dk_180 0 28 (dk_at dksX2_isDoubled_0 20 rfl rfl)
theorem dX2_isDoubled_23 : decode cX2_isDoubled 23 = .ok (.iconst 2, 1) := dk_5 (dk_at dksX2_isDoubled_0 23 rfl rfl)
theorem dX2_isDoubled_24 : decode cX2_isDoubled 24 = .ok (.iload_n 1, 1) := dk_27 (dk_at dksX2_isDoubled_1 0 rfl rfl)
theorem dX2_isDoubled_25 : decode cX2_isDoubled 25 = .ok (.imul, 1) := dk_104 (dk_at dksX2_isDoubled_1 1 rfl rfl)
theorem dX2_isDoubled_26 : decode cX2_isDoubled 26 = .ok (.iconst 1, 1) := dk_4 (dk_at dksX2_isDoubled_1 2 rfl rfl)
theorem dX2_isDoubled_27 : decode cX2_isDoubled 27 = .ok (.iadd, 1) := dk_96 (dk_at dksX2_isDoubled_1 3 rfl rfl)
theorem dX2_isDoubled_28 : decode cX2_isDoubled 28 = .ok (.iaload, 1) := dk_46 (dk_at dksX2_isDoubled_1 4 rfl rfl)
theorem dX2_isDoubled_29 : decode cX2_isDoubled 29 = .ok (.sipush 9999, 3) := dk_17 39 15 (dk_at dksX2_isDoubled_1 5 rfl rfl)
theorem dX2_isDoubled_32 : decode cX2_isDoubled 32 = .ok (.if_icmp .ge 7, 3) := dk_162 0 7 (dk_at dksX2_isDoubled_1 8 rfl rfl)
theorem dX2_isDoubled_35 : decode cX2_isDoubled 35 = .ok (.iconst 1, 1) := dk_4 (dk_at dksX2_isDoubled_1 11 rfl rfl)
theorem dX2_isDoubled_36 : decode cX2_isDoubled 36 = .ok (.goto 4, 3) := dk_167 0 4 (dk_at dksX2_isDoubled_1 12 rfl rfl)
theorem dX2_isDoubled_39 : decode cX2_isDoubled 39 = .ok (.iconst 0, 1) := dk_3 (dk_at dksX2_isDoubled_1 15 rfl rfl)
theorem dX2_isDoubled_40 : decode cX2_isDoubled 40 = .ok (.ireturn, 1) := dk_172 (dk_at dksX2_isDoubled_1 16 rfl rfl)
abbrev cX2_spreadsNow : ByteArray := prog_11_method_41_code
def yX2_spreadsNow : MethodName := ⟨RX2, "spreadsNow", "(Z)V"⟩
def dkwX2_spreadsNow_0 : List UInt8 := [42, 42, 180, 0, 7, 5, 46, 42, 180, 0, 7, 6, 46, 5, 112, 27, 182, 0, 122, 177]
abbrev dktX2_spreadsNow_0 : List UInt8 := dkwX2_spreadsNow_0 ++ []
theorem dksX2_spreadsNow_0 : cX2_spreadsNow.data.toList.drop 0 = dktX2_spreadsNow_0 := by decide +kernel
theorem dX2_spreadsNow_0 : decode cX2_spreadsNow 0 = .ok (.aload_n 0, 1) := dk_42 (dk_at dksX2_spreadsNow_0 0 rfl rfl)
theorem dX2_spreadsNow_1 : decode cX2_spreadsNow 1 = .ok (.aload_n 0, 1) := dk_42 (dk_at dksX2_spreadsNow_0 1 rfl rfl)
theorem dX2_spreadsNow_2 : decode cX2_spreadsNow 2 = .ok (.getfield 7, 3) := dk_180 0 7 (dk_at dksX2_spreadsNow_0 2 rfl rfl)
theorem dX2_spreadsNow_5 : decode cX2_spreadsNow 5 = .ok (.iconst 2, 1) := dk_5 (dk_at dksX2_spreadsNow_0 5 rfl rfl)
theorem dX2_spreadsNow_6 : decode cX2_spreadsNow 6 = .ok (.iaload, 1) := dk_46 (dk_at dksX2_spreadsNow_0 6 rfl rfl)
theorem dX2_spreadsNow_7 : decode cX2_spreadsNow 7 = .ok (.aload_n 0, 1) := dk_42 (dk_at dksX2_spreadsNow_0 7 rfl rfl)
theorem dX2_spreadsNow_8 : decode cX2_spreadsNow 8 = .ok (.getfield 7, 3) := dk_180 0 7 (dk_at dksX2_spreadsNow_0 8 rfl rfl)
theorem dX2_spreadsNow_11 : decode cX2_spreadsNow 11 = .ok (.iconst 3, 1) := dk_6 (dk_at dksX2_spreadsNow_0 11 rfl rfl)
theorem dX2_spreadsNow_12 : decode cX2_spreadsNow 12 = .ok (.iaload, 1) := dk_46 (dk_at dksX2_spreadsNow_0 12 rfl rfl)
theorem dX2_spreadsNow_13 : decode cX2_spreadsNow 13 = .ok (.iconst 2, 1) := dk_5 (dk_at dksX2_spreadsNow_0 13 rfl rfl)
theorem dX2_spreadsNow_14 : decode cX2_spreadsNow 14 = .ok (.irem, 1) := dk_112 (dk_at dksX2_spreadsNow_0 14 rfl rfl)
theorem dX2_spreadsNow_15 : decode cX2_spreadsNow 15 = .ok (.iload_n 1, 1) := dk_27 (dk_at dksX2_spreadsNow_0 15 rfl rfl)
theorem dX2_spreadsNow_16 : decode cX2_spreadsNow 16 = .ok (.invokevirtual 122, 3) := dk_182 0 122 (dk_at dksX2_spreadsNow_0 16 rfl rfl)
theorem dX2_spreadsNow_19 : decode cX2_spreadsNow 19 = .ok (.return_, 1) := dk_177 (dk_at dksX2_spreadsNow_0 19 rfl rfl)
abbrev cX2_doorOf : ByteArray := prog_11_method_44_code
def yX2_doorOf : MethodName := ⟨RX2, "doorOf", "(II)I"⟩
def dkwX2_doorOf_1 : List UInt8 := [27, 28, 182, 0, 67, 167, 0, 6, 17, 252, 12, 172]
abbrev dktX2_doorOf_1 : List UInt8 := dkwX2_doorOf_1 ++ []
def dkwX2_doorOf_0 : List UInt8 := [42, 27, 182, 0, 94, 154, 0, 9, 17, 252, 13, 167, 0, 24, 28, 3, 8, 184, 0, 55, 153, 0, 12, 42]
abbrev dktX2_doorOf_0 : List UInt8 := dkwX2_doorOf_0 ++ dktX2_doorOf_1
theorem dksX2_doorOf_0 : cX2_doorOf.data.toList.drop 0 = dktX2_doorOf_0 := by decide +kernel
theorem dksX2_doorOf_1 : cX2_doorOf.data.toList.drop 24 = dktX2_doorOf_1 := dk_seg dksX2_doorOf_0 24 rfl rfl
theorem dX2_doorOf_0 : decode cX2_doorOf 0 = .ok (.aload_n 0, 1) := dk_42 (dk_at dksX2_doorOf_0 0 rfl rfl)
theorem dX2_doorOf_1 : decode cX2_doorOf 1 = .ok (.iload_n 1, 1) := dk_27 (dk_at dksX2_doorOf_0 1 rfl rfl)
theorem dX2_doorOf_2 : decode cX2_doorOf 2 = .ok (.invokevirtual 94, 3) := dk_182 0 94 (dk_at dksX2_doorOf_0 2 rfl rfl)
theorem dX2_doorOf_5 : decode cX2_doorOf 5 = .ok (.ifCond .ne 9, 3) := dk_154 0 9 (dk_at dksX2_doorOf_0 5 rfl rfl)
theorem dX2_doorOf_8 : decode cX2_doorOf 8 = .ok (.sipush (-1011), 3) := dk_17 252 13 (dk_at dksX2_doorOf_0 8 rfl rfl)
theorem dX2_doorOf_11 : decode cX2_doorOf 11 = .ok (.goto 24, 3) := dk_167 0 24 (dk_at dksX2_doorOf_0 11 rfl rfl)
theorem dX2_doorOf_14 : decode cX2_doorOf 14 = .ok (.iload_n 2, 1) := dk_28 (dk_at dksX2_doorOf_0 14 rfl rfl)
theorem dX2_doorOf_15 : decode cX2_doorOf 15 = .ok (.iconst 0, 1) := dk_3 (dk_at dksX2_doorOf_0 15 rfl rfl)
theorem dX2_doorOf_16 : decode cX2_doorOf 16 = .ok (.iconst 5, 1) := dk_8 (dk_at dksX2_doorOf_0 16 rfl rfl)
theorem dX2_doorOf_17 : decode cX2_doorOf 17 = .ok (.invokestatic 55, 3) := dk_184 0 55 (dk_at dksX2_doorOf_0 17 rfl rfl)
theorem dX2_doorOf_20 : decode cX2_doorOf 20 = .ok (.ifCond .eq 12, 3) := dk_153 0 12 (dk_at dksX2_doorOf_0 20 rfl rfl)
theorem dX2_doorOf_23 : decode cX2_doorOf 23 = .ok (.aload_n 0, 1) := dk_42 (dk_at dksX2_doorOf_0 23 rfl rfl)
theorem dX2_doorOf_24 : decode cX2_doorOf 24 = .ok (.iload_n 1, 1) := dk_27 (dk_at dksX2_doorOf_1 0 rfl rfl)
theorem dX2_doorOf_25 : decode cX2_doorOf 25 = .ok (.iload_n 2, 1) := dk_28 (dk_at dksX2_doorOf_1 1 rfl rfl)
theorem dX2_doorOf_26 : decode cX2_doorOf 26 = .ok (.invokevirtual 67, 3) := dk_182 0 67 (dk_at dksX2_doorOf_1 2 rfl rfl)
theorem dX2_doorOf_29 : decode cX2_doorOf 29 = .ok (.goto 6, 3) := dk_167 0 6 (dk_at dksX2_doorOf_1 5 rfl rfl)
theorem dX2_doorOf_32 : decode cX2_doorOf 32 = .ok (.sipush (-1012), 3) := dk_17 252 12 (dk_at dksX2_doorOf_1 8 rfl rfl)
theorem dX2_doorOf_35 : decode cX2_doorOf 35 = .ok (.ireturn, 1) := dk_172 (dk_at dksX2_doorOf_1 11 rfl rfl)
abbrev cX2_reach : ByteArray := prog_11_method_45_code
def yX2_reach : MethodName := ⟨RX2, "reach", "()I"⟩
def dkwX2_reach_2 : List UInt8 := [167, 0, 4, 3, 128, 60, 132, 2, 1, 167, 255, 222, 27, 172]
abbrev dktX2_reach_2 : List UInt8 := dkwX2_reach_2 ++ []
def dkwX2_reach_1 : List UInt8 := [180, 0, 7, 3, 46, 162, 0, 30, 27, 42, 28, 182, 0, 126, 17, 39, 15, 162, 0, 9, 4, 28, 120]
abbrev dktX2_reach_1 : List UInt8 := dkwX2_reach_1 ++ dktX2_reach_2
def dkwX2_reach_0 : List UInt8 := [42, 180, 0, 7, 3, 46, 154, 0, 5, 3, 172, 42, 4, 182, 0, 140, 3, 60, 3, 61, 28, 42]
abbrev dktX2_reach_0 : List UInt8 := dkwX2_reach_0 ++ dktX2_reach_1
theorem dksX2_reach_0 : cX2_reach.data.toList.drop 0 = dktX2_reach_0 := by decide +kernel
theorem dksX2_reach_1 : cX2_reach.data.toList.drop 22 = dktX2_reach_1 := dk_seg dksX2_reach_0 22 rfl rfl
theorem dksX2_reach_2 : cX2_reach.data.toList.drop 45 = dktX2_reach_2 := dk_seg dksX2_reach_1 23 rfl rfl
theorem dX2_reach_0 : decode cX2_reach 0 = .ok (.aload_n 0, 1) := dk_42 (dk_at dksX2_reach_0 0 rfl rfl)
theorem dX2_reach_1 : decode cX2_reach 1 = .ok (.getfield 7, 3) := dk_180 0 7 (dk_at dksX2_reach_0 1 rfl rfl)
theorem dX2_reach_4 : decode cX2_reach 4 = .ok (.iconst 0, 1) := dk_3 (dk_at dksX2_reach_0 4 rfl rfl)
theorem dX2_reach_5 : decode cX2_reach 5 = .ok (.iaload, 1) := dk_46 (dk_at dksX2_reach_0 5 rfl rfl)
theorem dX2_reach_6 : decode cX2_reach 6 = .ok (.ifCond .ne 5, 3) := dk_154 0 5 (dk_at dksX2_reach_0 6 rfl rfl)
theorem dX2_reach_9 : decode cX2_reach 9 = .ok (.iconst 0, 1) := dk_3 (dk_at dksX2_reach_0 9 rfl rfl)
theorem dX2_reach_10 : decode cX2_reach 10 = .ok (.ireturn, 1) := dk_172 (dk_at dksX2_reach_0 10 rfl rfl)
theorem dX2_reach_11 : decode cX2_reach 11 = .ok (.aload_n 0, 1) := dk_42 (dk_at dksX2_reach_0 11 rfl rfl)
theorem dX2_reach_12 : decode cX2_reach 12 = .ok (.iconst 1, 1) := dk_4 (dk_at dksX2_reach_0 12 rfl rfl)
theorem dX2_reach_13 : decode cX2_reach 13 = .ok (.invokevirtual 140, 3) := dk_182 0 140 (dk_at dksX2_reach_0 13 rfl rfl)
theorem dX2_reach_16 : decode cX2_reach 16 = .ok (.iconst 0, 1) := dk_3 (dk_at dksX2_reach_0 16 rfl rfl)
theorem dX2_reach_17 : decode cX2_reach 17 = .ok (.istore_n 1, 1) := dk_60 (dk_at dksX2_reach_0 17 rfl rfl)
theorem dX2_reach_18 : decode cX2_reach 18 = .ok (.iconst 0, 1) := dk_3 (dk_at dksX2_reach_0 18 rfl rfl)
theorem dX2_reach_19 : decode cX2_reach 19 = .ok (.istore_n 2, 1) := dk_61 (dk_at dksX2_reach_0 19 rfl rfl)
theorem dX2_reach_20 : decode cX2_reach 20 = .ok (.iload_n 2, 1) := dk_28 (dk_at dksX2_reach_0 20 rfl rfl)
theorem dX2_reach_21 : decode cX2_reach 21 = .ok (.aload_n 0, 1) := dk_42 (dk_at dksX2_reach_0 21 rfl rfl)
theorem dX2_reach_22 : decode cX2_reach 22 = .ok (.getfield 7, 3) := dk_180 0 7 (dk_at dksX2_reach_1 0 rfl rfl)
theorem dX2_reach_25 : decode cX2_reach 25 = .ok (.iconst 0, 1) := dk_3 (dk_at dksX2_reach_1 3 rfl rfl)
theorem dX2_reach_26 : decode cX2_reach 26 = .ok (.iaload, 1) := dk_46 (dk_at dksX2_reach_1 4 rfl rfl)
theorem dX2_reach_27 : decode cX2_reach 27 = .ok (.if_icmp .ge 30, 3) := dk_162 0 30 (dk_at dksX2_reach_1 5 rfl rfl)
theorem dX2_reach_30 : decode cX2_reach 30 = .ok (.iload_n 1, 1) := dk_27 (dk_at dksX2_reach_1 8 rfl rfl)
theorem dX2_reach_31 : decode cX2_reach 31 = .ok (.aload_n 0, 1) := dk_42 (dk_at dksX2_reach_1 9 rfl rfl)
theorem dX2_reach_32 : decode cX2_reach 32 = .ok (.iload_n 2, 1) := dk_28 (dk_at dksX2_reach_1 10 rfl rfl)
theorem dX2_reach_33 : decode cX2_reach 33 = .ok (.invokevirtual 126, 3) := dk_182 0 126 (dk_at dksX2_reach_1 11 rfl rfl)
theorem dX2_reach_36 : decode cX2_reach 36 = .ok (.sipush 9999, 3) := dk_17 39 15 (dk_at dksX2_reach_1 14 rfl rfl)
theorem dX2_reach_39 : decode cX2_reach 39 = .ok (.if_icmp .ge 9, 3) := dk_162 0 9 (dk_at dksX2_reach_1 17 rfl rfl)
theorem dX2_reach_42 : decode cX2_reach 42 = .ok (.iconst 1, 1) := dk_4 (dk_at dksX2_reach_1 20 rfl rfl)
theorem dX2_reach_43 : decode cX2_reach 43 = .ok (.iload_n 2, 1) := dk_28 (dk_at dksX2_reach_1 21 rfl rfl)
theorem dX2_reach_44 : decode cX2_reach 44 = .ok (.ishl, 1) := dk_120 (dk_at dksX2_reach_1 22 rfl rfl)
theorem dX2_reach_45 : decode cX2_reach 45 = .ok (.goto 4, 3) := dk_167 0 4 (dk_at dksX2_reach_2 0 rfl rfl)
theorem dX2_reach_48 : decode cX2_reach 48 = .ok (.iconst 0, 1) := dk_3 (dk_at dksX2_reach_2 3 rfl rfl)
theorem dX2_reach_49 : decode cX2_reach 49 = .ok (.ior, 1) := dk_128 (dk_at dksX2_reach_2 4 rfl rfl)
theorem dX2_reach_50 : decode cX2_reach 50 = .ok (.istore_n 1, 1) := dk_60 (dk_at dksX2_reach_2 5 rfl rfl)
theorem dX2_reach_51 : decode cX2_reach 51 = .ok (.iinc 2 1, 3) := dk_132 2 1 (dk_at dksX2_reach_2 6 rfl rfl)
theorem dX2_reach_54 : decode cX2_reach 54 = .ok (.goto (-34), 3) := dk_167 255 222 (dk_at dksX2_reach_2 9 rfl rfl)
theorem dX2_reach_57 : decode cX2_reach 57 = .ok (.iload_n 1, 1) := dk_27 (dk_at dksX2_reach_2 12 rfl rfl)
theorem dX2_reach_58 : decode cX2_reach 58 = .ok (.ireturn, 1) := dk_172 (dk_at dksX2_reach_2 13 rfl rfl)
abbrev cX2_nearestKey : ByteArray := prog_11_method_46_code
def yX2_nearestKey : MethodName := ⟨RX2, "nearestKey", "(I)I"⟩
def dkwX2_nearestKey_4 : List UInt8 := [132, 3, 1, 167, 255, 195, 28, 156, 0, 9, 17, 252, 9, 167, 0, 4, 28, 172]
abbrev dktX2_nearestKey_4 : List UInt8 := dkwX2_nearestKey_4 ++ []
def dkwX2_nearestKey_3 : List UInt8 := [162, 0, 22, 28, 155, 0, 16, 42, 29, 182, 0, 126, 42, 28, 182, 0, 126, 162, 0, 5, 29, 61]
abbrev dktX2_nearestKey_3 : List UInt8 := dkwX2_nearestKey_3 ++ dktX2_nearestKey_4
def dkwX2_nearestKey_2 : List UInt8 := [16, 10, 7, 29, 104, 96, 4, 96, 27, 96, 46, 158, 0, 33, 42, 29, 182, 0, 126, 17, 39, 15]
abbrev dktX2_nearestKey_2 : List UInt8 := dkwX2_nearestKey_2 ++ dktX2_nearestKey_3
def dkwX2_nearestKey_1 : List UInt8 := [42, 4, 182, 0, 140, 2, 61, 3, 62, 29, 42, 180, 0, 7, 3, 46, 162, 0, 57, 42, 180, 0, 7]
abbrev dktX2_nearestKey_1 : List UInt8 := dkwX2_nearestKey_1 ++ dktX2_nearestKey_2
def dkwX2_nearestKey_0 : List UInt8 := [27, 184, 0, 83, 154, 0, 7, 17, 252, 12, 172, 42, 180, 0, 7, 3, 46, 154, 0, 7, 17, 252, 9, 172]
abbrev dktX2_nearestKey_0 : List UInt8 := dkwX2_nearestKey_0 ++ dktX2_nearestKey_1
theorem dksX2_nearestKey_0 : cX2_nearestKey.data.toList.drop 0 = dktX2_nearestKey_0 := by decide +kernel
theorem dksX2_nearestKey_1 : cX2_nearestKey.data.toList.drop 24 = dktX2_nearestKey_1 := dk_seg dksX2_nearestKey_0 24 rfl rfl
theorem dksX2_nearestKey_2 : cX2_nearestKey.data.toList.drop 47 = dktX2_nearestKey_2 := dk_seg dksX2_nearestKey_1 23 rfl rfl
theorem dksX2_nearestKey_3 : cX2_nearestKey.data.toList.drop 69 = dktX2_nearestKey_3 := dk_seg dksX2_nearestKey_2 22 rfl rfl
theorem dksX2_nearestKey_4 : cX2_nearestKey.data.toList.drop 91 = dktX2_nearestKey_4 := dk_seg dksX2_nearestKey_3 22 rfl rfl
theorem dX2_nearestKey_0 : decode cX2_nearestKey 0 = .ok (.iload_n 1, 1) := dk_27 (dk_at dksX2_nearestKey_0 0 rfl rfl)
theorem dX2_nearestKey_1 : decode cX2_nearestKey 1 = .ok (.invokestatic 83, 3) := dk_184 0 83 (dk_at dksX2_nearestKey_0 1 rfl rfl)
theorem dX2_nearestKey_4 : decode cX2_nearestKey 4 = .ok (.ifCond .ne 7, 3) := dk_154 0 7 (dk_at dksX2_nearestKey_0 4 rfl rfl)
theorem dX2_nearestKey_7 : decode cX2_nearestKey 7 = .ok (.sipush (-1012), 3) := dk_17 252 12 (dk_at dksX2_nearestKey_0 7 rfl rfl)
theorem dX2_nearestKey_10 : decode cX2_nearestKey 10 = .ok (.ireturn, 1) := dk_172 (dk_at dksX2_nearestKey_0 10 rfl rfl)
theorem dX2_nearestKey_11 : decode cX2_nearestKey 11 = .ok (.aload_n 0, 1) := dk_42 (dk_at dksX2_nearestKey_0 11 rfl rfl)
theorem dX2_nearestKey_12 : decode cX2_nearestKey 12 = .ok (.getfield 7, 3) := dk_180 0 7 (dk_at dksX2_nearestKey_0 12 rfl rfl)
theorem dX2_nearestKey_15 : decode cX2_nearestKey 15 = .ok (.iconst 0, 1) := dk_3 (dk_at dksX2_nearestKey_0 15 rfl rfl)
theorem dX2_nearestKey_16 : decode cX2_nearestKey 16 = .ok (.iaload, 1) := dk_46 (dk_at dksX2_nearestKey_0 16 rfl rfl)
theorem dX2_nearestKey_17 : decode cX2_nearestKey 17 = .ok (.ifCond .ne 7, 3) := dk_154 0 7 (dk_at dksX2_nearestKey_0 17 rfl rfl)
theorem dX2_nearestKey_20 : decode cX2_nearestKey 20 = .ok (.sipush (-1015), 3) := dk_17 252 9 (dk_at dksX2_nearestKey_0 20 rfl rfl)
theorem dX2_nearestKey_23 : decode cX2_nearestKey 23 = .ok (.ireturn, 1) := dk_172 (dk_at dksX2_nearestKey_0 23 rfl rfl)
theorem dX2_nearestKey_24 : decode cX2_nearestKey 24 = .ok (.aload_n 0, 1) := dk_42 (dk_at dksX2_nearestKey_1 0 rfl rfl)
theorem dX2_nearestKey_25 : decode cX2_nearestKey 25 = .ok (.iconst 1, 1) := dk_4 (dk_at dksX2_nearestKey_1 1 rfl rfl)
theorem dX2_nearestKey_26 : decode cX2_nearestKey 26 = .ok (.invokevirtual 140, 3) := dk_182 0 140 (dk_at dksX2_nearestKey_1 2 rfl rfl)
theorem dX2_nearestKey_29 : decode cX2_nearestKey 29 = .ok (.iconst (-1), 1) := dk_2 (dk_at dksX2_nearestKey_1 5 rfl rfl)
theorem dX2_nearestKey_30 : decode cX2_nearestKey 30 = .ok (.istore_n 2, 1) := dk_61 (dk_at dksX2_nearestKey_1 6 rfl rfl)
theorem dX2_nearestKey_31 : decode cX2_nearestKey 31 = .ok (.iconst 0, 1) := dk_3 (dk_at dksX2_nearestKey_1 7 rfl rfl)
theorem dX2_nearestKey_32 : decode cX2_nearestKey 32 = .ok (.istore_n 3, 1) := dk_62 (dk_at dksX2_nearestKey_1 8 rfl rfl)
theorem dX2_nearestKey_33 : decode cX2_nearestKey 33 = .ok (.iload_n 3, 1) := dk_29 (dk_at dksX2_nearestKey_1 9 rfl rfl)
theorem dX2_nearestKey_34 : decode cX2_nearestKey 34 = .ok (.aload_n 0, 1) := dk_42 (dk_at dksX2_nearestKey_1 10 rfl rfl)
theorem dX2_nearestKey_35 : decode cX2_nearestKey 35 = .ok (.getfield 7, 3) := dk_180 0 7 (dk_at dksX2_nearestKey_1 11 rfl rfl)
theorem dX2_nearestKey_38 : decode cX2_nearestKey 38 = .ok (.iconst 0, 1) := dk_3 (dk_at dksX2_nearestKey_1 14 rfl rfl)
theorem dX2_nearestKey_39 : decode cX2_nearestKey 39 = .ok (.iaload, 1) := dk_46 (dk_at dksX2_nearestKey_1 15 rfl rfl)
theorem dX2_nearestKey_40 : decode cX2_nearestKey 40 = .ok (.if_icmp .ge 57, 3) := dk_162 0 57 (dk_at dksX2_nearestKey_1 16 rfl rfl)
theorem dX2_nearestKey_43 : decode cX2_nearestKey 43 = .ok (.aload_n 0, 1) := dk_42 (dk_at dksX2_nearestKey_1 19 rfl rfl)
theorem dX2_nearestKey_44 : decode cX2_nearestKey 44 = .ok (.getfield 7, 3) := dk_180 0 7 (dk_at dksX2_nearestKey_1 20 rfl rfl)
theorem dX2_nearestKey_47 : decode cX2_nearestKey 47 = .ok (.bipush 10, 2) := dk_16 10 (dk_at dksX2_nearestKey_2 0 rfl rfl)
theorem dX2_nearestKey_49 : decode cX2_nearestKey 49 = .ok (.iconst 4, 1) := dk_7 (dk_at dksX2_nearestKey_2 2 rfl rfl)
theorem dX2_nearestKey_50 : decode cX2_nearestKey 50 = .ok (.iload_n 3, 1) := dk_29 (dk_at dksX2_nearestKey_2 3 rfl rfl)
theorem dX2_nearestKey_51 : decode cX2_nearestKey 51 = .ok (.imul, 1) := dk_104 (dk_at dksX2_nearestKey_2 4 rfl rfl)
theorem dX2_nearestKey_52 : decode cX2_nearestKey 52 = .ok (.iadd, 1) := dk_96 (dk_at dksX2_nearestKey_2 5 rfl rfl)
theorem dX2_nearestKey_53 : decode cX2_nearestKey 53 = .ok (.iconst 1, 1) := dk_4 (dk_at dksX2_nearestKey_2 6 rfl rfl)
theorem dX2_nearestKey_54 : decode cX2_nearestKey 54 = .ok (.iadd, 1) := dk_96 (dk_at dksX2_nearestKey_2 7 rfl rfl)
theorem dX2_nearestKey_55 : decode cX2_nearestKey 55 = .ok (.iload_n 1, 1) := dk_27 (dk_at dksX2_nearestKey_2 8 rfl rfl)
theorem dX2_nearestKey_56 : decode cX2_nearestKey 56 = .ok (.iadd, 1) := dk_96 (dk_at dksX2_nearestKey_2 9 rfl rfl)
theorem dX2_nearestKey_57 : decode cX2_nearestKey 57 = .ok (.iaload, 1) := dk_46 (dk_at dksX2_nearestKey_2 10 rfl rfl)
theorem dX2_nearestKey_58 : decode cX2_nearestKey 58 = .ok (.ifCond .le 33, 3) := dk_158 0 33 (dk_at dksX2_nearestKey_2 11 rfl rfl)
theorem dX2_nearestKey_61 : decode cX2_nearestKey 61 = .ok (.aload_n 0, 1) := dk_42 (dk_at dksX2_nearestKey_2 14 rfl rfl)
theorem dX2_nearestKey_62 : decode cX2_nearestKey 62 = .ok (.iload_n 3, 1) := dk_29 (dk_at dksX2_nearestKey_2 15 rfl rfl)
theorem dX2_nearestKey_63 : decode cX2_nearestKey 63 = .ok (.invokevirtual 126, 3) := dk_182 0 126 (dk_at dksX2_nearestKey_2 16 rfl rfl)
theorem dX2_nearestKey_66 : decode cX2_nearestKey 66 = .ok (.sipush 9999, 3) := dk_17 39 15 (dk_at dksX2_nearestKey_2 19 rfl rfl)
theorem dX2_nearestKey_69 : decode cX2_nearestKey 69 = .ok (.if_icmp .ge 22, 3) := dk_162 0 22 (dk_at dksX2_nearestKey_3 0 rfl rfl)
theorem dX2_nearestKey_72 : decode cX2_nearestKey 72 = .ok (.iload_n 2, 1) := dk_28 (dk_at dksX2_nearestKey_3 3 rfl rfl)
theorem dX2_nearestKey_73 : decode cX2_nearestKey 73 = .ok (.ifCond .lt 16, 3) := dk_155 0 16 (dk_at dksX2_nearestKey_3 4 rfl rfl)
theorem dX2_nearestKey_76 : decode cX2_nearestKey 76 = .ok (.aload_n 0, 1) := dk_42 (dk_at dksX2_nearestKey_3 7 rfl rfl)
theorem dX2_nearestKey_77 : decode cX2_nearestKey 77 = .ok (.iload_n 3, 1) := dk_29 (dk_at dksX2_nearestKey_3 8 rfl rfl)
theorem dX2_nearestKey_78 : decode cX2_nearestKey 78 = .ok (.invokevirtual 126, 3) := dk_182 0 126 (dk_at dksX2_nearestKey_3 9 rfl rfl)
theorem dX2_nearestKey_81 : decode cX2_nearestKey 81 = .ok (.aload_n 0, 1) := dk_42 (dk_at dksX2_nearestKey_3 12 rfl rfl)
theorem dX2_nearestKey_82 : decode cX2_nearestKey 82 = .ok (.iload_n 2, 1) := dk_28 (dk_at dksX2_nearestKey_3 13 rfl rfl)
theorem dX2_nearestKey_83 : decode cX2_nearestKey 83 = .ok (.invokevirtual 126, 3) := dk_182 0 126 (dk_at dksX2_nearestKey_3 14 rfl rfl)
theorem dX2_nearestKey_86 : decode cX2_nearestKey 86 = .ok (.if_icmp .ge 5, 3) := dk_162 0 5 (dk_at dksX2_nearestKey_3 17 rfl rfl)
theorem dX2_nearestKey_89 : decode cX2_nearestKey 89 = .ok (.iload_n 3, 1) := dk_29 (dk_at dksX2_nearestKey_3 20 rfl rfl)
theorem dX2_nearestKey_90 : decode cX2_nearestKey 90 = .ok (.istore_n 2, 1) := dk_61 (dk_at dksX2_nearestKey_3 21 rfl rfl)
theorem dX2_nearestKey_91 : decode cX2_nearestKey 91 = .ok (.iinc 3 1, 3) := dk_132 3 1 (dk_at dksX2_nearestKey_4 0 rfl rfl)
theorem dX2_nearestKey_94 : decode cX2_nearestKey 94 = .ok (.goto (-61), 3) := dk_167 255 195 (dk_at dksX2_nearestKey_4 3 rfl rfl)
theorem dX2_nearestKey_97 : decode cX2_nearestKey 97 = .ok (.iload_n 2, 1) := dk_28 (dk_at dksX2_nearestKey_4 6 rfl rfl)
theorem dX2_nearestKey_98 : decode cX2_nearestKey 98 = .ok (.ifCond .ge 9, 3) := dk_156 0 9 (dk_at dksX2_nearestKey_4 7 rfl rfl)
theorem dX2_nearestKey_101 : decode cX2_nearestKey 101 = .ok (.sipush (-1015), 3) := dk_17 252 9 (dk_at dksX2_nearestKey_4 10 rfl rfl)
theorem dX2_nearestKey_104 : decode cX2_nearestKey 104 = .ok (.goto 4, 3) := dk_167 0 4 (dk_at dksX2_nearestKey_4 13 rfl rfl)
theorem dX2_nearestKey_107 : decode cX2_nearestKey 107 = .ok (.iload_n 2, 1) := dk_28 (dk_at dksX2_nearestKey_4 16 rfl rfl)
theorem dX2_nearestKey_108 : decode cX2_nearestKey 108 = .ok (.ireturn, 1) := dk_172 (dk_at dksX2_nearestKey_4 17 rfl rfl)
abbrev cX2_ranked : ByteArray := prog_11_method_47_code
def yX2_ranked : MethodName := ⟨RX2, "ranked", "(I)I"⟩
def dkwX2_ranked_4 : List UInt8 := [160, 0, 5, 28, 172, 132, 2, 1, 167, 255, 172, 17, 252, 13, 172]
abbrev dktX2_ranked_4 : List UInt8 := dkwX2_ranked_4 ++ []
def dkwX2_ranked_3 : List UInt8 := [160, 0, 13, 21, 4, 28, 162, 0, 7, 4, 167, 0, 4, 3, 96, 62, 132, 4, 1, 167, 255, 200, 29, 27]
abbrev dktX2_ranked_3 : List UInt8 := dkwX2_ranked_3 ++ dktX2_ranked_4
def dkwX2_ranked_2 : List UInt8 := [182, 0, 126, 42, 28, 182, 0, 126, 161, 0, 23, 42, 21, 4, 182, 0, 126, 42, 28, 182, 0, 126]
abbrev dktX2_ranked_2 : List UInt8 := dkwX2_ranked_2 ++ dktX2_ranked_3
def dkwX2_ranked_1 : List UInt8 := [162, 0, 80, 3, 62, 3, 54, 4, 21, 4, 42, 180, 0, 7, 3, 46, 162, 0, 51, 29, 42, 21, 4]
abbrev dktX2_ranked_1 : List UInt8 := dkwX2_ranked_1 ++ dktX2_ranked_2
def dkwX2_ranked_0 : List UInt8 := [42, 180, 0, 7, 3, 46, 158, 0, 8, 42, 4, 182, 0, 140, 3, 61, 28, 42, 180, 0, 7, 3, 46]
abbrev dktX2_ranked_0 : List UInt8 := dkwX2_ranked_0 ++ dktX2_ranked_1
theorem dksX2_ranked_0 : cX2_ranked.data.toList.drop 0 = dktX2_ranked_0 := by decide +kernel
theorem dksX2_ranked_1 : cX2_ranked.data.toList.drop 23 = dktX2_ranked_1 := dk_seg dksX2_ranked_0 23 rfl rfl
theorem dksX2_ranked_2 : cX2_ranked.data.toList.drop 46 = dktX2_ranked_2 := dk_seg dksX2_ranked_1 23 rfl rfl
theorem dksX2_ranked_3 : cX2_ranked.data.toList.drop 68 = dktX2_ranked_3 := dk_seg dksX2_ranked_2 22 rfl rfl
theorem dksX2_ranked_4 : cX2_ranked.data.toList.drop 92 = dktX2_ranked_4 := dk_seg dksX2_ranked_3 24 rfl rfl
theorem dX2_ranked_0 : decode cX2_ranked 0 = .ok (.aload_n 0, 1) := dk_42 (dk_at dksX2_ranked_0 0 rfl rfl)
theorem dX2_ranked_1 : decode cX2_ranked 1 = .ok (.getfield 7, 3) := dk_180 0 7 (dk_at dksX2_ranked_0 1 rfl rfl)
theorem dX2_ranked_4 : decode cX2_ranked 4 = .ok (.iconst 0, 1) := dk_3 (dk_at dksX2_ranked_0 4 rfl rfl)
theorem dX2_ranked_5 : decode cX2_ranked 5 = .ok (.iaload, 1) := dk_46 (dk_at dksX2_ranked_0 5 rfl rfl)
theorem dX2_ranked_6 : decode cX2_ranked 6 = .ok (.ifCond .le 8, 3) := dk_158 0 8 (dk_at dksX2_ranked_0 6 rfl rfl)
theorem dX2_ranked_9 : decode cX2_ranked 9 = .ok (.aload_n 0, 1) := dk_42 (dk_at dksX2_ranked_0 9 rfl rfl)
theorem dX2_ranked_10 : decode cX2_ranked 10 = .ok (.iconst 1, 1) := dk_4 (dk_at dksX2_ranked_0 10 rfl rfl)
theorem dX2_ranked_11 : decode cX2_ranked 11 = .ok (.invokevirtual 140, 3) := dk_182 0 140 (dk_at dksX2_ranked_0 11 rfl rfl)
theorem dX2_ranked_14 : decode cX2_ranked 14 = .ok (.iconst 0, 1) := dk_3 (dk_at dksX2_ranked_0 14 rfl rfl)
theorem dX2_ranked_15 : decode cX2_ranked 15 = .ok (.istore_n 2, 1) := dk_61 (dk_at dksX2_ranked_0 15 rfl rfl)
theorem dX2_ranked_16 : decode cX2_ranked 16 = .ok (.iload_n 2, 1) := dk_28 (dk_at dksX2_ranked_0 16 rfl rfl)
theorem dX2_ranked_17 : decode cX2_ranked 17 = .ok (.aload_n 0, 1) := dk_42 (dk_at dksX2_ranked_0 17 rfl rfl)
theorem dX2_ranked_18 : decode cX2_ranked 18 = .ok (.getfield 7, 3) := dk_180 0 7 (dk_at dksX2_ranked_0 18 rfl rfl)
theorem dX2_ranked_21 : decode cX2_ranked 21 = .ok (.iconst 0, 1) := dk_3 (dk_at dksX2_ranked_0 21 rfl rfl)
theorem dX2_ranked_22 : decode cX2_ranked 22 = .ok (.iaload, 1) := dk_46 (dk_at dksX2_ranked_0 22 rfl rfl)
theorem dX2_ranked_23 : decode cX2_ranked 23 = .ok (.if_icmp .ge 80, 3) := dk_162 0 80 (dk_at dksX2_ranked_1 0 rfl rfl)
theorem dX2_ranked_26 : decode cX2_ranked 26 = .ok (.iconst 0, 1) := dk_3 (dk_at dksX2_ranked_1 3 rfl rfl)
theorem dX2_ranked_27 : decode cX2_ranked 27 = .ok (.istore_n 3, 1) := dk_62 (dk_at dksX2_ranked_1 4 rfl rfl)
theorem dX2_ranked_28 : decode cX2_ranked 28 = .ok (.iconst 0, 1) := dk_3 (dk_at dksX2_ranked_1 5 rfl rfl)
theorem dX2_ranked_29 : decode cX2_ranked 29 = .ok (.istore 4, 2) := dk_54 4 (dk_at dksX2_ranked_1 6 rfl rfl)
theorem dX2_ranked_31 : decode cX2_ranked 31 = .ok (.iload 4, 2) := dk_21 4 (dk_at dksX2_ranked_1 8 rfl rfl)
theorem dX2_ranked_33 : decode cX2_ranked 33 = .ok (.aload_n 0, 1) := dk_42 (dk_at dksX2_ranked_1 10 rfl rfl)
theorem dX2_ranked_34 : decode cX2_ranked 34 = .ok (.getfield 7, 3) := dk_180 0 7 (dk_at dksX2_ranked_1 11 rfl rfl)
theorem dX2_ranked_37 : decode cX2_ranked 37 = .ok (.iconst 0, 1) := dk_3 (dk_at dksX2_ranked_1 14 rfl rfl)
theorem dX2_ranked_38 : decode cX2_ranked 38 = .ok (.iaload, 1) := dk_46 (dk_at dksX2_ranked_1 15 rfl rfl)
theorem dX2_ranked_39 : decode cX2_ranked 39 = .ok (.if_icmp .ge 51, 3) := dk_162 0 51 (dk_at dksX2_ranked_1 16 rfl rfl)
theorem dX2_ranked_42 : decode cX2_ranked 42 = .ok (.iload_n 3, 1) := dk_29 (dk_at dksX2_ranked_1 19 rfl rfl)
theorem dX2_ranked_43 : decode cX2_ranked 43 = .ok (.aload_n 0, 1) := dk_42 (dk_at dksX2_ranked_1 20 rfl rfl)
theorem dX2_ranked_44 : decode cX2_ranked 44 = .ok (.iload 4, 2) := dk_21 4 (dk_at dksX2_ranked_1 21 rfl rfl)
theorem dX2_ranked_46 : decode cX2_ranked 46 = .ok (.invokevirtual 126, 3) := dk_182 0 126 (dk_at dksX2_ranked_2 0 rfl rfl)
theorem dX2_ranked_49 : decode cX2_ranked 49 = .ok (.aload_n 0, 1) := dk_42 (dk_at dksX2_ranked_2 3 rfl rfl)
theorem dX2_ranked_50 : decode cX2_ranked 50 = .ok (.iload_n 2, 1) := dk_28 (dk_at dksX2_ranked_2 4 rfl rfl)
theorem dX2_ranked_51 : decode cX2_ranked 51 = .ok (.invokevirtual 126, 3) := dk_182 0 126 (dk_at dksX2_ranked_2 5 rfl rfl)
theorem dX2_ranked_54 : decode cX2_ranked 54 = .ok (.if_icmp .lt 23, 3) := dk_161 0 23 (dk_at dksX2_ranked_2 8 rfl rfl)
theorem dX2_ranked_57 : decode cX2_ranked 57 = .ok (.aload_n 0, 1) := dk_42 (dk_at dksX2_ranked_2 11 rfl rfl)
theorem dX2_ranked_58 : decode cX2_ranked 58 = .ok (.iload 4, 2) := dk_21 4 (dk_at dksX2_ranked_2 12 rfl rfl)
theorem dX2_ranked_60 : decode cX2_ranked 60 = .ok (.invokevirtual 126, 3) := dk_182 0 126 (dk_at dksX2_ranked_2 14 rfl rfl)
theorem dX2_ranked_63 : decode cX2_ranked 63 = .ok (.aload_n 0, 1) := dk_42 (dk_at dksX2_ranked_2 17 rfl rfl)
theorem dX2_ranked_64 : decode cX2_ranked 64 = .ok (.iload_n 2, 1) := dk_28 (dk_at dksX2_ranked_2 18 rfl rfl)
theorem dX2_ranked_65 : decode cX2_ranked 65 = .ok (.invokevirtual 126, 3) := dk_182 0 126 (dk_at dksX2_ranked_2 19 rfl rfl)
theorem dX2_ranked_68 : decode cX2_ranked 68 = .ok (.if_icmp .ne 13, 3) := dk_160 0 13 (dk_at dksX2_ranked_3 0 rfl rfl)
theorem dX2_ranked_71 : decode cX2_ranked 71 = .ok (.iload 4, 2) := dk_21 4 (dk_at dksX2_ranked_3 3 rfl rfl)
theorem dX2_ranked_73 : decode cX2_ranked 73 = .ok (.iload_n 2, 1) := dk_28 (dk_at dksX2_ranked_3 5 rfl rfl)
theorem dX2_ranked_74 : decode cX2_ranked 74 = .ok (.if_icmp .ge 7, 3) := dk_162 0 7 (dk_at dksX2_ranked_3 6 rfl rfl)
theorem dX2_ranked_77 : decode cX2_ranked 77 = .ok (.iconst 1, 1) := dk_4 (dk_at dksX2_ranked_3 9 rfl rfl)
theorem dX2_ranked_78 : decode cX2_ranked 78 = .ok (.goto 4, 3) := dk_167 0 4 (dk_at dksX2_ranked_3 10 rfl rfl)
theorem dX2_ranked_81 : decode cX2_ranked 81 = .ok (.iconst 0, 1) := dk_3 (dk_at dksX2_ranked_3 13 rfl rfl)
theorem dX2_ranked_82 : decode cX2_ranked 82 = .ok (.iadd, 1) := dk_96 (dk_at dksX2_ranked_3 14 rfl rfl)
theorem dX2_ranked_83 : decode cX2_ranked 83 = .ok (.istore_n 3, 1) := dk_62 (dk_at dksX2_ranked_3 15 rfl rfl)
theorem dX2_ranked_84 : decode cX2_ranked 84 = .ok (.iinc 4 1, 3) := dk_132 4 1 (dk_at dksX2_ranked_3 16 rfl rfl)
theorem dX2_ranked_87 : decode cX2_ranked 87 = .ok (.goto (-56), 3) := dk_167 255 200 (dk_at dksX2_ranked_3 19 rfl rfl)
theorem dX2_ranked_90 : decode cX2_ranked 90 = .ok (.iload_n 3, 1) := dk_29 (dk_at dksX2_ranked_3 22 rfl rfl)
theorem dX2_ranked_91 : decode cX2_ranked 91 = .ok (.iload_n 1, 1) := dk_27 (dk_at dksX2_ranked_3 23 rfl rfl)
theorem dX2_ranked_92 : decode cX2_ranked 92 = .ok (.if_icmp .ne 5, 3) := dk_160 0 5 (dk_at dksX2_ranked_4 0 rfl rfl)
theorem dX2_ranked_95 : decode cX2_ranked 95 = .ok (.iload_n 2, 1) := dk_28 (dk_at dksX2_ranked_4 3 rfl rfl)
theorem dX2_ranked_96 : decode cX2_ranked 96 = .ok (.ireturn, 1) := dk_172 (dk_at dksX2_ranked_4 4 rfl rfl)
theorem dX2_ranked_97 : decode cX2_ranked 97 = .ok (.iinc 2 1, 3) := dk_132 2 1 (dk_at dksX2_ranked_4 5 rfl rfl)
theorem dX2_ranked_100 : decode cX2_ranked 100 = .ok (.goto (-84), 3) := dk_167 255 172 (dk_at dksX2_ranked_4 8 rfl rfl)
theorem dX2_ranked_103 : decode cX2_ranked 103 = .ok (.sipush (-1011), 3) := dk_17 252 13 (dk_at dksX2_ranked_4 11 rfl rfl)
theorem dX2_ranked_106 : decode cX2_ranked 106 = .ok (.ireturn, 1) := dk_172 (dk_at dksX2_ranked_4 14 rfl rfl)
abbrev cX2_append : ByteArray := prog_11_method_48_code
def yX2_append : MethodName := ⟨RX2, "append", "(I)I"⟩
def dkwX2_append_2 : List UInt8 := [42, 180, 0, 150, 172]
abbrev dktX2_append_2 : List UInt8 := dkwX2_append_2 ++ []
def dkwX2_append_1 : List UInt8 := [17, 252, 11, 172, 42, 180, 0, 22, 42, 180, 0, 150, 27, 79, 42, 89, 180, 0, 150, 4, 96, 181, 0, 150]
abbrev dktX2_append_1 : List UInt8 := dkwX2_append_1 ++ dktX2_append_2
def dkwX2_append_0 : List UInt8 := [27, 16, 32, 16, 126, 184, 0, 55, 154, 0, 7, 17, 252, 12, 172, 42, 180, 0, 150, 16, 60, 160, 0, 7]
abbrev dktX2_append_0 : List UInt8 := dkwX2_append_0 ++ dktX2_append_1
theorem dksX2_append_0 : cX2_append.data.toList.drop 0 = dktX2_append_0 := by decide +kernel
theorem dksX2_append_1 : cX2_append.data.toList.drop 24 = dktX2_append_1 := dk_seg dksX2_append_0 24 rfl rfl
theorem dksX2_append_2 : cX2_append.data.toList.drop 48 = dktX2_append_2 := dk_seg dksX2_append_1 24 rfl rfl
theorem dX2_append_0 : decode cX2_append 0 = .ok (.iload_n 1, 1) := dk_27 (dk_at dksX2_append_0 0 rfl rfl)
theorem dX2_append_1 : decode cX2_append 1 = .ok (.bipush 32, 2) := dk_16 32 (dk_at dksX2_append_0 1 rfl rfl)
theorem dX2_append_3 : decode cX2_append 3 = .ok (.bipush 126, 2) := dk_16 126 (dk_at dksX2_append_0 3 rfl rfl)
theorem dX2_append_5 : decode cX2_append 5 = .ok (.invokestatic 55, 3) := dk_184 0 55 (dk_at dksX2_append_0 5 rfl rfl)
theorem dX2_append_8 : decode cX2_append 8 = .ok (.ifCond .ne 7, 3) := dk_154 0 7 (dk_at dksX2_append_0 8 rfl rfl)
theorem dX2_append_11 : decode cX2_append 11 = .ok (.sipush (-1012), 3) := dk_17 252 12 (dk_at dksX2_append_0 11 rfl rfl)
theorem dX2_append_14 : decode cX2_append 14 = .ok (.ireturn, 1) := dk_172 (dk_at dksX2_append_0 14 rfl rfl)
theorem dX2_append_15 : decode cX2_append 15 = .ok (.aload_n 0, 1) := dk_42 (dk_at dksX2_append_0 15 rfl rfl)
theorem dX2_append_16 : decode cX2_append 16 = .ok (.getfield 150, 3) := dk_180 0 150 (dk_at dksX2_append_0 16 rfl rfl)
theorem dX2_append_19 : decode cX2_append 19 = .ok (.bipush 60, 2) := dk_16 60 (dk_at dksX2_append_0 19 rfl rfl)
theorem dX2_append_21 : decode cX2_append 21 = .ok (.if_icmp .ne 7, 3) := dk_160 0 7 (dk_at dksX2_append_0 21 rfl rfl)
theorem dX2_append_24 : decode cX2_append 24 = .ok (.sipush (-1013), 3) := dk_17 252 11 (dk_at dksX2_append_1 0 rfl rfl)
theorem dX2_append_27 : decode cX2_append 27 = .ok (.ireturn, 1) := dk_172 (dk_at dksX2_append_1 3 rfl rfl)
theorem dX2_append_28 : decode cX2_append 28 = .ok (.aload_n 0, 1) := dk_42 (dk_at dksX2_append_1 4 rfl rfl)
theorem dX2_append_29 : decode cX2_append 29 = .ok (.getfield 22, 3) := dk_180 0 22 (dk_at dksX2_append_1 5 rfl rfl)
theorem dX2_append_32 : decode cX2_append 32 = .ok (.aload_n 0, 1) := dk_42 (dk_at dksX2_append_1 8 rfl rfl)
theorem dX2_append_33 : decode cX2_append 33 = .ok (.getfield 150, 3) := dk_180 0 150 (dk_at dksX2_append_1 9 rfl rfl)
theorem dX2_append_36 : decode cX2_append 36 = .ok (.iload_n 1, 1) := dk_27 (dk_at dksX2_append_1 12 rfl rfl)
theorem dX2_append_37 : decode cX2_append 37 = .ok (.iastore, 1) := dk_79 (dk_at dksX2_append_1 13 rfl rfl)
theorem dX2_append_38 : decode cX2_append 38 = .ok (.aload_n 0, 1) := dk_42 (dk_at dksX2_append_1 14 rfl rfl)
theorem dX2_append_39 : decode cX2_append 39 = .ok (.dup, 1) := dk_89 (dk_at dksX2_append_1 15 rfl rfl)
theorem dX2_append_40 : decode cX2_append 40 = .ok (.getfield 150, 3) := dk_180 0 150 (dk_at dksX2_append_1 16 rfl rfl)
theorem dX2_append_43 : decode cX2_append 43 = .ok (.iconst 1, 1) := dk_4 (dk_at dksX2_append_1 19 rfl rfl)
theorem dX2_append_44 : decode cX2_append 44 = .ok (.iadd, 1) := dk_96 (dk_at dksX2_append_1 20 rfl rfl)
theorem dX2_append_45 : decode cX2_append 45 = .ok (.putfield 150, 3) := dk_181 0 150 (dk_at dksX2_append_1 21 rfl rfl)
theorem dX2_append_48 : decode cX2_append 48 = .ok (.aload_n 0, 1) := dk_42 (dk_at dksX2_append_2 0 rfl rfl)
theorem dX2_append_49 : decode cX2_append 49 = .ok (.getfield 150, 3) := dk_180 0 150 (dk_at dksX2_append_2 1 rfl rfl)
theorem dX2_append_52 : decode cX2_append 52 = .ok (.ireturn, 1) := dk_172 (dk_at dksX2_append_2 4 rfl rfl)
abbrev cX2_run : ByteArray := prog_11_method_59_code
def yX2_run : MethodName := ⟨RX2, "run", "()I"⟩
def dkwX2_run_4 : List UInt8 := [42, 16, 12, 28, 182, 0, 59, 172, 42, 42, 180, 0, 19, 182, 0, 63, 42, 180, 0, 170, 172]
abbrev dktX2_run_4 : List UInt8 := dkwX2_run_4 ++ []
def dkwX2_run_3 : List UInt8 := [181, 0, 44, 28, 42, 180, 0, 170, 162, 0, 24, 42, 180, 0, 19, 3, 42, 180, 0, 7, 3, 184, 0, 51]
abbrev dktX2_run_3 : List UInt8 := dkwX2_run_3 ++ dktX2_run_4
def dkwX2_run_2 : List UInt8 := [162, 0, 20, 42, 16, 6, 28, 104, 182, 0, 237, 155, 0, 9, 132, 2, 1, 167, 255, 234, 42, 3]
abbrev dktX2_run_2 : List UInt8 := dkwX2_run_2 ++ dktX2_run_3
def dkwX2_run_1 : List UInt8 := [180, 0, 7, 3, 42, 180, 0, 19, 3, 184, 0, 51, 42, 4, 181, 0, 44, 3, 61, 28, 42, 180, 0, 170]
abbrev dktX2_run_1 : List UInt8 := dkwX2_run_1 ++ dktX2_run_2
def dkwX2_run_0 : List UInt8 := [42, 182, 0, 234, 60, 42, 3, 181, 0, 150, 27, 154, 0, 12, 17, 248, 48, 42, 180, 0, 153, 100, 172, 42]
abbrev dktX2_run_0 : List UInt8 := dkwX2_run_0 ++ dktX2_run_1
theorem dksX2_run_0 : cX2_run.data.toList.drop 0 = dktX2_run_0 := by decide +kernel
theorem dksX2_run_1 : cX2_run.data.toList.drop 24 = dktX2_run_1 := dk_seg dksX2_run_0 24 rfl rfl
theorem dksX2_run_2 : cX2_run.data.toList.drop 48 = dktX2_run_2 := dk_seg dksX2_run_1 24 rfl rfl
theorem dksX2_run_3 : cX2_run.data.toList.drop 70 = dktX2_run_3 := dk_seg dksX2_run_2 22 rfl rfl
theorem dksX2_run_4 : cX2_run.data.toList.drop 94 = dktX2_run_4 := dk_seg dksX2_run_3 24 rfl rfl
theorem dX2_run_0 : decode cX2_run 0 = .ok (.aload_n 0, 1) := dk_42 (dk_at dksX2_run_0 0 rfl rfl)
theorem dX2_run_1 : decode cX2_run 1 = .ok (.invokevirtual 234, 3) := dk_182 0 234 (dk_at dksX2_run_0 1 rfl rfl)
theorem dX2_run_4 : decode cX2_run 4 = .ok (.istore_n 1, 1) := dk_60 (dk_at dksX2_run_0 4 rfl rfl)
theorem dX2_run_5 : decode cX2_run 5 = .ok (.aload_n 0, 1) := dk_42 (dk_at dksX2_run_0 5 rfl rfl)
theorem dX2_run_6 : decode cX2_run 6 = .ok (.iconst 0, 1) := dk_3 (dk_at dksX2_run_0 6 rfl rfl)
theorem dX2_run_7 : decode cX2_run 7 = .ok (.putfield 150, 3) := dk_181 0 150 (dk_at dksX2_run_0 7 rfl rfl)
theorem dX2_run_10 : decode cX2_run 10 = .ok (.iload_n 1, 1) := dk_27 (dk_at dksX2_run_0 10 rfl rfl)
theorem dX2_run_11 : decode cX2_run 11 = .ok (.ifCond .ne 12, 3) := dk_154 0 12 (dk_at dksX2_run_0 11 rfl rfl)
theorem dX2_run_14 : decode cX2_run 14 = .ok (.sipush (-2000), 3) := dk_17 248 48 (dk_at dksX2_run_0 14 rfl rfl)
theorem dX2_run_17 : decode cX2_run 17 = .ok (.aload_n 0, 1) := dk_42 (dk_at dksX2_run_0 17 rfl rfl)
theorem dX2_run_18 : decode cX2_run 18 = .ok (.getfield 153, 3) := dk_180 0 153 (dk_at dksX2_run_0 18 rfl rfl)
theorem dX2_run_21 : decode cX2_run 21 = .ok (.isub, 1) := dk_100 (dk_at dksX2_run_0 21 rfl rfl)
theorem dX2_run_22 : decode cX2_run 22 = .ok (.ireturn, 1) := dk_172 (dk_at dksX2_run_0 22 rfl rfl)
theorem dX2_run_23 : decode cX2_run 23 = .ok (.aload_n 0, 1) := dk_42 (dk_at dksX2_run_0 23 rfl rfl)
theorem dX2_run_24 : decode cX2_run 24 = .ok (.getfield 7, 3) := dk_180 0 7 (dk_at dksX2_run_1 0 rfl rfl)
theorem dX2_run_27 : decode cX2_run 27 = .ok (.iconst 0, 1) := dk_3 (dk_at dksX2_run_1 3 rfl rfl)
theorem dX2_run_28 : decode cX2_run 28 = .ok (.aload_n 0, 1) := dk_42 (dk_at dksX2_run_1 4 rfl rfl)
theorem dX2_run_29 : decode cX2_run 29 = .ok (.getfield 19, 3) := dk_180 0 19 (dk_at dksX2_run_1 5 rfl rfl)
theorem dX2_run_32 : decode cX2_run 32 = .ok (.iconst 0, 1) := dk_3 (dk_at dksX2_run_1 8 rfl rfl)
theorem dX2_run_33 : decode cX2_run 33 = .ok (.invokestatic 51, 3) := dk_184 0 51 (dk_at dksX2_run_1 9 rfl rfl)
theorem dX2_run_36 : decode cX2_run 36 = .ok (.aload_n 0, 1) := dk_42 (dk_at dksX2_run_1 12 rfl rfl)
theorem dX2_run_37 : decode cX2_run 37 = .ok (.iconst 1, 1) := dk_4 (dk_at dksX2_run_1 13 rfl rfl)
theorem dX2_run_38 : decode cX2_run 38 = .ok (.putfield 44, 3) := dk_181 0 44 (dk_at dksX2_run_1 14 rfl rfl)
theorem dX2_run_41 : decode cX2_run 41 = .ok (.iconst 0, 1) := dk_3 (dk_at dksX2_run_1 17 rfl rfl)
theorem dX2_run_42 : decode cX2_run 42 = .ok (.istore_n 2, 1) := dk_61 (dk_at dksX2_run_1 18 rfl rfl)
theorem dX2_run_43 : decode cX2_run 43 = .ok (.iload_n 2, 1) := dk_28 (dk_at dksX2_run_1 19 rfl rfl)
theorem dX2_run_44 : decode cX2_run 44 = .ok (.aload_n 0, 1) := dk_42 (dk_at dksX2_run_1 20 rfl rfl)
theorem dX2_run_45 : decode cX2_run 45 = .ok (.getfield 170, 3) := dk_180 0 170 (dk_at dksX2_run_1 21 rfl rfl)
theorem dX2_run_48 : decode cX2_run 48 = .ok (.if_icmp .ge 20, 3) := dk_162 0 20 (dk_at dksX2_run_2 0 rfl rfl)
theorem dX2_run_51 : decode cX2_run 51 = .ok (.aload_n 0, 1) := dk_42 (dk_at dksX2_run_2 3 rfl rfl)
theorem dX2_run_52 : decode cX2_run 52 = .ok (.bipush 6, 2) := dk_16 6 (dk_at dksX2_run_2 4 rfl rfl)
theorem dX2_run_54 : decode cX2_run 54 = .ok (.iload_n 2, 1) := dk_28 (dk_at dksX2_run_2 6 rfl rfl)
theorem dX2_run_55 : decode cX2_run 55 = .ok (.imul, 1) := dk_104 (dk_at dksX2_run_2 7 rfl rfl)
theorem dX2_run_56 : decode cX2_run 56 = .ok (.invokevirtual 237, 3) := dk_182 0 237 (dk_at dksX2_run_2 8 rfl rfl)
theorem dX2_run_59 : decode cX2_run 59 = .ok (.ifCond .lt 9, 3) := dk_155 0 9 (dk_at dksX2_run_2 11 rfl rfl)
theorem dX2_run_62 : decode cX2_run 62 = .ok (.iinc 2 1, 3) := dk_132 2 1 (dk_at dksX2_run_2 14 rfl rfl)
theorem dX2_run_65 : decode cX2_run 65 = .ok (.goto (-22), 3) := dk_167 255 234 (dk_at dksX2_run_2 17 rfl rfl)
theorem dX2_run_68 : decode cX2_run 68 = .ok (.aload_n 0, 1) := dk_42 (dk_at dksX2_run_2 20 rfl rfl)
theorem dX2_run_69 : decode cX2_run 69 = .ok (.iconst 0, 1) := dk_3 (dk_at dksX2_run_2 21 rfl rfl)
theorem dX2_run_70 : decode cX2_run 70 = .ok (.putfield 44, 3) := dk_181 0 44 (dk_at dksX2_run_3 0 rfl rfl)
theorem dX2_run_73 : decode cX2_run 73 = .ok (.iload_n 2, 1) := dk_28 (dk_at dksX2_run_3 3 rfl rfl)
theorem dX2_run_74 : decode cX2_run 74 = .ok (.aload_n 0, 1) := dk_42 (dk_at dksX2_run_3 4 rfl rfl)
theorem dX2_run_75 : decode cX2_run 75 = .ok (.getfield 170, 3) := dk_180 0 170 (dk_at dksX2_run_3 5 rfl rfl)
theorem dX2_run_78 : decode cX2_run 78 = .ok (.if_icmp .ge 24, 3) := dk_162 0 24 (dk_at dksX2_run_3 8 rfl rfl)
theorem dX2_run_81 : decode cX2_run 81 = .ok (.aload_n 0, 1) := dk_42 (dk_at dksX2_run_3 11 rfl rfl)
theorem dX2_run_82 : decode cX2_run 82 = .ok (.getfield 19, 3) := dk_180 0 19 (dk_at dksX2_run_3 12 rfl rfl)
theorem dX2_run_85 : decode cX2_run 85 = .ok (.iconst 0, 1) := dk_3 (dk_at dksX2_run_3 15 rfl rfl)
theorem dX2_run_86 : decode cX2_run 86 = .ok (.aload_n 0, 1) := dk_42 (dk_at dksX2_run_3 16 rfl rfl)
theorem dX2_run_87 : decode cX2_run 87 = .ok (.getfield 7, 3) := dk_180 0 7 (dk_at dksX2_run_3 17 rfl rfl)
theorem dX2_run_90 : decode cX2_run 90 = .ok (.iconst 0, 1) := dk_3 (dk_at dksX2_run_3 20 rfl rfl)
theorem dX2_run_91 : decode cX2_run 91 = .ok (.invokestatic 51, 3) := dk_184 0 51 (dk_at dksX2_run_3 21 rfl rfl)
theorem dX2_run_94 : decode cX2_run 94 = .ok (.aload_n 0, 1) := dk_42 (dk_at dksX2_run_4 0 rfl rfl)
theorem dX2_run_95 : decode cX2_run 95 = .ok (.bipush 12, 2) := dk_16 12 (dk_at dksX2_run_4 1 rfl rfl)
theorem dX2_run_97 : decode cX2_run 97 = .ok (.iload_n 2, 1) := dk_28 (dk_at dksX2_run_4 3 rfl rfl)
theorem dX2_run_98 : decode cX2_run 98 = .ok (.invokevirtual 59, 3) := dk_182 0 59 (dk_at dksX2_run_4 4 rfl rfl)
theorem dX2_run_101 : decode cX2_run 101 = .ok (.ireturn, 1) := dk_172 (dk_at dksX2_run_4 7 rfl rfl)
theorem dX2_run_102 : decode cX2_run 102 = .ok (.aload_n 0, 1) := dk_42 (dk_at dksX2_run_4 8 rfl rfl)
theorem dX2_run_103 : decode cX2_run 103 = .ok (.aload_n 0, 1) := dk_42 (dk_at dksX2_run_4 9 rfl rfl)
theorem dX2_run_104 : decode cX2_run 104 = .ok (.getfield 19, 3) := dk_180 0 19 (dk_at dksX2_run_4 10 rfl rfl)
theorem dX2_run_107 : decode cX2_run 107 = .ok (.invokevirtual 63, 3) := dk_182 0 63 (dk_at dksX2_run_4 13 rfl rfl)
theorem dX2_run_110 : decode cX2_run 110 = .ok (.aload_n 0, 1) := dk_42 (dk_at dksX2_run_4 16 rfl rfl)
theorem dX2_run_111 : decode cX2_run 111 = .ok (.getfield 170, 3) := dk_180 0 170 (dk_at dksX2_run_4 17 rfl rfl)
theorem dX2_run_114 : decode cX2_run 114 = .ok (.ireturn, 1) := dk_172 (dk_at dksX2_run_4 20 rfl rfl)
abbrev cX2_isText : ByteArray := prog_11_method_57_code
def yX2_isText : MethodName := ⟨RX2, "isText", "()Z"⟩
def dkwX2_isText_2 : List UInt8 := [160, 0, 7, 4, 167, 0, 4, 3, 172]
abbrev dktX2_isText_2 : List UInt8 := dkwX2_isText_2 ++ []
def dkwX2_isText_1 : List UInt8 := [4, 96, 181, 0, 170, 42, 16, 59, 182, 0, 167, 154, 255, 231, 42, 180, 0, 153, 42, 180, 0, 150]
abbrev dktX2_isText_1 : List UInt8 := dkwX2_isText_1 ++ dktX2_isText_2
def dkwX2_isText_0 : List UInt8 := [42, 3, 181, 0, 153, 42, 3, 181, 0, 170, 42, 182, 0, 205, 154, 0, 5, 3, 172, 42, 89, 180, 0, 170]
abbrev dktX2_isText_0 : List UInt8 := dkwX2_isText_0 ++ dktX2_isText_1
theorem dksX2_isText_0 : cX2_isText.data.toList.drop 0 = dktX2_isText_0 := by decide +kernel
theorem dksX2_isText_1 : cX2_isText.data.toList.drop 24 = dktX2_isText_1 := dk_seg dksX2_isText_0 24 rfl rfl
theorem dksX2_isText_2 : cX2_isText.data.toList.drop 46 = dktX2_isText_2 := dk_seg dksX2_isText_1 22 rfl rfl
theorem dX2_isText_0 : decode cX2_isText 0 = .ok (.aload_n 0, 1) := dk_42 (dk_at dksX2_isText_0 0 rfl rfl)
theorem dX2_isText_1 : decode cX2_isText 1 = .ok (.iconst 0, 1) := dk_3 (dk_at dksX2_isText_0 1 rfl rfl)
theorem dX2_isText_2 : decode cX2_isText 2 = .ok (.putfield 153, 3) := dk_181 0 153 (dk_at dksX2_isText_0 2 rfl rfl)
theorem dX2_isText_5 : decode cX2_isText 5 = .ok (.aload_n 0, 1) := dk_42 (dk_at dksX2_isText_0 5 rfl rfl)
theorem dX2_isText_6 : decode cX2_isText 6 = .ok (.iconst 0, 1) := dk_3 (dk_at dksX2_isText_0 6 rfl rfl)
theorem dX2_isText_7 : decode cX2_isText 7 = .ok (.putfield 170, 3) := dk_181 0 170 (dk_at dksX2_isText_0 7 rfl rfl)
theorem dX2_isText_10 : decode cX2_isText 10 = .ok (.aload_n 0, 1) := dk_42 (dk_at dksX2_isText_0 10 rfl rfl)
theorem dX2_isText_11 : decode cX2_isText 11 = .ok (.invokevirtual 205, 3) := dk_182 0 205 (dk_at dksX2_isText_0 11 rfl rfl)
theorem dX2_isText_14 : decode cX2_isText 14 = .ok (.ifCond .ne 5, 3) := dk_154 0 5 (dk_at dksX2_isText_0 14 rfl rfl)
theorem dX2_isText_17 : decode cX2_isText 17 = .ok (.iconst 0, 1) := dk_3 (dk_at dksX2_isText_0 17 rfl rfl)
theorem dX2_isText_18 : decode cX2_isText 18 = .ok (.ireturn, 1) := dk_172 (dk_at dksX2_isText_0 18 rfl rfl)
theorem dX2_isText_19 : decode cX2_isText 19 = .ok (.aload_n 0, 1) := dk_42 (dk_at dksX2_isText_0 19 rfl rfl)
theorem dX2_isText_20 : decode cX2_isText 20 = .ok (.dup, 1) := dk_89 (dk_at dksX2_isText_0 20 rfl rfl)
theorem dX2_isText_21 : decode cX2_isText 21 = .ok (.getfield 170, 3) := dk_180 0 170 (dk_at dksX2_isText_0 21 rfl rfl)
theorem dX2_isText_24 : decode cX2_isText 24 = .ok (.iconst 1, 1) := dk_4 (dk_at dksX2_isText_1 0 rfl rfl)
theorem dX2_isText_25 : decode cX2_isText 25 = .ok (.iadd, 1) := dk_96 (dk_at dksX2_isText_1 1 rfl rfl)
theorem dX2_isText_26 : decode cX2_isText 26 = .ok (.putfield 170, 3) := dk_181 0 170 (dk_at dksX2_isText_1 2 rfl rfl)
theorem dX2_isText_29 : decode cX2_isText 29 = .ok (.aload_n 0, 1) := dk_42 (dk_at dksX2_isText_1 5 rfl rfl)
theorem dX2_isText_30 : decode cX2_isText 30 = .ok (.bipush 59, 2) := dk_16 59 (dk_at dksX2_isText_1 6 rfl rfl)
theorem dX2_isText_32 : decode cX2_isText 32 = .ok (.invokevirtual 167, 3) := dk_182 0 167 (dk_at dksX2_isText_1 8 rfl rfl)
theorem dX2_isText_35 : decode cX2_isText 35 = .ok (.ifCond .ne (-25), 3) := dk_154 255 231 (dk_at dksX2_isText_1 11 rfl rfl)
theorem dX2_isText_38 : decode cX2_isText 38 = .ok (.aload_n 0, 1) := dk_42 (dk_at dksX2_isText_1 14 rfl rfl)
theorem dX2_isText_39 : decode cX2_isText 39 = .ok (.getfield 153, 3) := dk_180 0 153 (dk_at dksX2_isText_1 15 rfl rfl)
theorem dX2_isText_42 : decode cX2_isText 42 = .ok (.aload_n 0, 1) := dk_42 (dk_at dksX2_isText_1 18 rfl rfl)
theorem dX2_isText_43 : decode cX2_isText 43 = .ok (.getfield 150, 3) := dk_180 0 150 (dk_at dksX2_isText_1 19 rfl rfl)
theorem dX2_isText_46 : decode cX2_isText 46 = .ok (.if_icmp .ne 7, 3) := dk_160 0 7 (dk_at dksX2_isText_2 0 rfl rfl)
theorem dX2_isText_49 : decode cX2_isText 49 = .ok (.iconst 1, 1) := dk_4 (dk_at dksX2_isText_2 3 rfl rfl)
theorem dX2_isText_50 : decode cX2_isText 50 = .ok (.goto 4, 3) := dk_167 0 4 (dk_at dksX2_isText_2 4 rfl rfl)
theorem dX2_isText_53 : decode cX2_isText 53 = .ok (.iconst 0, 1) := dk_3 (dk_at dksX2_isText_2 7 rfl rfl)
theorem dX2_isText_54 : decode cX2_isText 54 = .ok (.ireturn, 1) := dk_172 (dk_at dksX2_isText_2 8 rfl rfl)
abbrev cX2_orderHere : ByteArray := prog_11_method_56_code
def yX2_orderHere : MethodName := ⟨RX2, "orderHere", "()Z"⟩
def dkwX2_orderHere_16 : List UInt8 := [153, 0, 18, 42, 27, 5, 96, 5, 182, 0, 173, 153, 0, 7, 4, 167, 0, 4, 3, 172]
abbrev dktX2_orderHere_16 : List UInt8 := dkwX2_orderHere_16 ++ []
def dkwX2_orderHere_15 : List UInt8 := [182, 0, 184, 153, 0, 38, 42, 27, 4, 96, 4, 182, 0, 173, 153, 0, 27, 42, 16, 32, 182, 0, 167]
abbrev dktX2_orderHere_15 : List UInt8 := dkwX2_orderHere_15 ++ dktX2_orderHere_16
def dkwX2_orderHere_14 : List UInt8 := [5, 182, 0, 173, 153, 0, 7, 4, 167, 0, 4, 3, 172, 42, 7, 182, 0, 179, 153, 0, 47, 42, 18, 203]
abbrev dktX2_orderHere_14 : List UInt8 := dkwX2_orderHere_14 ++ dktX2_orderHere_15
def dkwX2_orderHere_13 : List UInt8 := [153, 0, 37, 42, 6, 182, 0, 179, 153, 0, 27, 42, 18, 201, 182, 0, 184, 153, 0, 18, 42, 27, 4, 96]
abbrev dktX2_orderHere_13 : List UInt8 := dkwX2_orderHere_13 ++ dktX2_orderHere_14
def dkwX2_orderHere_12 : List UInt8 := [167, 0, 4, 3, 172, 42, 16, 111, 182, 0, 167, 154, 0, 5, 3, 172, 42, 16, 112, 182, 0, 167]
abbrev dktX2_orderHere_12 : List UInt8 := dkwX2_orderHere_12 ++ dktX2_orderHere_13
def dkwX2_orderHere_11 : List UInt8 := [182, 0, 179, 153, 0, 24, 42, 18, 196, 182, 0, 184, 153, 0, 15, 42, 27, 182, 0, 198, 153, 0, 7, 4]
abbrev dktX2_orderHere_11 : List UInt8 := dkwX2_orderHere_11 ++ dktX2_orderHere_12
def dkwX2_orderHere_10 : List UInt8 := [182, 0, 173, 153, 0, 7, 4, 167, 0, 4, 3, 172, 42, 16, 100, 182, 0, 167, 153, 0, 35, 42, 16, 7]
abbrev dktX2_orderHere_10 : List UInt8 := dkwX2_orderHere_10 ++ dktX2_orderHere_11
def dkwX2_orderHere_9 : List UInt8 := [96, 4, 182, 0, 173, 153, 0, 27, 42, 16, 32, 182, 0, 167, 153, 0, 18, 42, 27, 5, 96, 4]
abbrev dktX2_orderHere_9 : List UInt8 := dkwX2_orderHere_9 ++ dktX2_orderHere_10
def dkwX2_orderHere_8 : List UInt8 := [153, 0, 58, 42, 16, 6, 182, 0, 179, 153, 0, 47, 42, 18, 194, 182, 0, 184, 153, 0, 38, 42, 27, 4]
abbrev dktX2_orderHere_8 : List UInt8 := dkwX2_orderHere_8 ++ dktX2_orderHere_9
def dkwX2_orderHere_7 : List UInt8 := [27, 4, 96, 5, 182, 0, 173, 153, 0, 7, 4, 167, 0, 4, 3, 172, 42, 16, 107, 182, 0, 167]
abbrev dktX2_orderHere_7 : List UInt8 := dkwX2_orderHere_7 ++ dktX2_orderHere_8
def dkwX2_orderHere_6 : List UInt8 := [182, 0, 167, 153, 0, 37, 42, 8, 182, 0, 179, 153, 0, 27, 42, 18, 192, 182, 0, 184, 153, 0, 18, 42]
abbrev dktX2_orderHere_6 : List UInt8 := dkwX2_orderHere_6 ++ dktX2_orderHere_7
def dkwX2_orderHere_5 : List UInt8 := [153, 0, 18, 42, 27, 4, 96, 4, 182, 0, 173, 153, 0, 7, 4, 167, 0, 4, 3, 172, 42, 16, 114]
abbrev dktX2_orderHere_5 : List UInt8 := dkwX2_orderHere_5 ++ dktX2_orderHere_6
def dkwX2_orderHere_4 : List UInt8 := [172, 42, 16, 116, 182, 0, 167, 153, 0, 37, 42, 5, 182, 0, 179, 153, 0, 27, 42, 18, 190, 182, 0, 184]
abbrev dktX2_orderHere_4 : List UInt8 := dkwX2_orderHere_4 ++ dktX2_orderHere_5
def dkwX2_orderHere_3 : List UInt8 := [18, 188, 182, 0, 184, 153, 0, 18, 42, 27, 4, 96, 5, 182, 0, 173, 153, 0, 7, 4, 167, 0, 4, 3]
abbrev dktX2_orderHere_3 : List UInt8 := dkwX2_orderHere_3 ++ dktX2_orderHere_4
def dkwX2_orderHere_2 : List UInt8 := [167, 0, 4, 3, 172, 42, 16, 119, 182, 0, 167, 153, 0, 37, 42, 4, 182, 0, 179, 153, 0, 27, 42]
abbrev dktX2_orderHere_2 : List UInt8 := dkwX2_orderHere_2 ++ dktX2_orderHere_3
def dkwX2_orderHere_1 : List UInt8 := [153, 0, 27, 42, 18, 182, 182, 0, 184, 153, 0, 18, 42, 27, 4, 96, 5, 182, 0, 173, 153, 0, 7, 4]
abbrev dktX2_orderHere_1 : List UInt8 := dkwX2_orderHere_1 ++ dktX2_orderHere_2
def dkwX2_orderHere_0 : List UInt8 := [16, 6, 42, 180, 0, 170, 104, 60, 42, 16, 103, 182, 0, 167, 153, 0, 37, 42, 3, 182, 0, 179]
abbrev dktX2_orderHere_0 : List UInt8 := dkwX2_orderHere_0 ++ dktX2_orderHere_1
theorem dksX2_orderHere_0 : cX2_orderHere.data.toList.drop 0 = dktX2_orderHere_0 := by decide +kernel
theorem dksX2_orderHere_1 : cX2_orderHere.data.toList.drop 22 = dktX2_orderHere_1 := dk_seg dksX2_orderHere_0 22 rfl rfl
theorem dksX2_orderHere_2 : cX2_orderHere.data.toList.drop 46 = dktX2_orderHere_2 := dk_seg dksX2_orderHere_1 24 rfl rfl
theorem dksX2_orderHere_3 : cX2_orderHere.data.toList.drop 69 = dktX2_orderHere_3 := dk_seg dksX2_orderHere_2 23 rfl rfl
theorem dksX2_orderHere_4 : cX2_orderHere.data.toList.drop 93 = dktX2_orderHere_4 := dk_seg dksX2_orderHere_3 24 rfl rfl
theorem dksX2_orderHere_5 : cX2_orderHere.data.toList.drop 117 = dktX2_orderHere_5 := dk_seg dksX2_orderHere_4 24 rfl rfl
theorem dksX2_orderHere_6 : cX2_orderHere.data.toList.drop 140 = dktX2_orderHere_6 := dk_seg dksX2_orderHere_5 23 rfl rfl
theorem dksX2_orderHere_7 : cX2_orderHere.data.toList.drop 164 = dktX2_orderHere_7 := dk_seg dksX2_orderHere_6 24 rfl rfl
theorem dksX2_orderHere_8 : cX2_orderHere.data.toList.drop 186 = dktX2_orderHere_8 := dk_seg dksX2_orderHere_7 22 rfl rfl
theorem dksX2_orderHere_9 : cX2_orderHere.data.toList.drop 210 = dktX2_orderHere_9 := dk_seg dksX2_orderHere_8 24 rfl rfl
theorem dksX2_orderHere_10 : cX2_orderHere.data.toList.drop 232 = dktX2_orderHere_10 := dk_seg dksX2_orderHere_9 22 rfl rfl
theorem dksX2_orderHere_11 : cX2_orderHere.data.toList.drop 256 = dktX2_orderHere_11 := dk_seg dksX2_orderHere_10 24 rfl rfl
theorem dksX2_orderHere_12 : cX2_orderHere.data.toList.drop 280 = dktX2_orderHere_12 := dk_seg dksX2_orderHere_11 24 rfl rfl
theorem dksX2_orderHere_13 : cX2_orderHere.data.toList.drop 302 = dktX2_orderHere_13 := dk_seg dksX2_orderHere_12 22 rfl rfl
theorem dksX2_orderHere_14 : cX2_orderHere.data.toList.drop 326 = dktX2_orderHere_14 := dk_seg dksX2_orderHere_13 24 rfl rfl
theorem dksX2_orderHere_15 : cX2_orderHere.data.toList.drop 350 = dktX2_orderHere_15 := dk_seg dksX2_orderHere_14 24 rfl rfl
theorem dksX2_orderHere_16 : cX2_orderHere.data.toList.drop 373 = dktX2_orderHere_16 := dk_seg dksX2_orderHere_15 23 rfl rfl
theorem dX2_orderHere_0 : decode cX2_orderHere 0 = .ok (.bipush 6, 2) := dk_16 6 (dk_at dksX2_orderHere_0 0 rfl rfl)
theorem dX2_orderHere_2 : decode cX2_orderHere 2 = .ok (.aload_n 0, 1) := dk_42 (dk_at dksX2_orderHere_0 2 rfl rfl)
theorem dX2_orderHere_3 : decode cX2_orderHere 3 = .ok (.getfield 170, 3) := dk_180 0 170 (dk_at dksX2_orderHere_0 3 rfl rfl)
theorem dX2_orderHere_6 : decode cX2_orderHere 6 = .ok (.imul, 1) := dk_104 (dk_at dksX2_orderHere_0 6 rfl rfl)
theorem dX2_orderHere_7 : decode cX2_orderHere 7 = .ok (.istore_n 1, 1) := dk_60 (dk_at dksX2_orderHere_0 7 rfl rfl)
theorem dX2_orderHere_8 : decode cX2_orderHere 8 = .ok (.aload_n 0, 1) := dk_42 (dk_at dksX2_orderHere_0 8 rfl rfl)
theorem dX2_orderHere_9 : decode cX2_orderHere 9 = .ok (.bipush 103, 2) := dk_16 103 (dk_at dksX2_orderHere_0 9 rfl rfl)
theorem dX2_orderHere_11 : decode cX2_orderHere 11 = .ok (.invokevirtual 167, 3) := dk_182 0 167 (dk_at dksX2_orderHere_0 11 rfl rfl)
theorem dX2_orderHere_14 : decode cX2_orderHere 14 = .ok (.ifCond .eq 37, 3) := dk_153 0 37 (dk_at dksX2_orderHere_0 14 rfl rfl)
theorem dX2_orderHere_17 : decode cX2_orderHere 17 = .ok (.aload_n 0, 1) := dk_42 (dk_at dksX2_orderHere_0 17 rfl rfl)
theorem dX2_orderHere_18 : decode cX2_orderHere 18 = .ok (.iconst 0, 1) := dk_3 (dk_at dksX2_orderHere_0 18 rfl rfl)
theorem dX2_orderHere_19 : decode cX2_orderHere 19 = .ok (.invokevirtual 179, 3) := dk_182 0 179 (dk_at dksX2_orderHere_0 19 rfl rfl)
theorem dX2_orderHere_22 : decode cX2_orderHere 22 = .ok (.ifCond .eq 27, 3) := dk_153 0 27 (dk_at dksX2_orderHere_1 0 rfl rfl)
theorem dX2_orderHere_25 : decode cX2_orderHere 25 = .ok (.aload_n 0, 1) := dk_42 (dk_at dksX2_orderHere_1 3 rfl rfl)
theorem dX2_orderHere_26 : decode cX2_orderHere 26 = .ok (.ldc 182, 2) := dk_18 182 (dk_at dksX2_orderHere_1 4 rfl rfl)
theorem dX2_orderHere_28 : decode cX2_orderHere 28 = .ok (.invokevirtual 184, 3) := dk_182 0 184 (dk_at dksX2_orderHere_1 6 rfl rfl)
theorem dX2_orderHere_31 : decode cX2_orderHere 31 = .ok (.ifCond .eq 18, 3) := dk_153 0 18 (dk_at dksX2_orderHere_1 9 rfl rfl)
theorem dX2_orderHere_34 : decode cX2_orderHere 34 = .ok (.aload_n 0, 1) := dk_42 (dk_at dksX2_orderHere_1 12 rfl rfl)
theorem dX2_orderHere_35 : decode cX2_orderHere 35 = .ok (.iload_n 1, 1) := dk_27 (dk_at dksX2_orderHere_1 13 rfl rfl)
theorem dX2_orderHere_36 : decode cX2_orderHere 36 = .ok (.iconst 1, 1) := dk_4 (dk_at dksX2_orderHere_1 14 rfl rfl)
theorem dX2_orderHere_37 : decode cX2_orderHere 37 = .ok (.iadd, 1) := dk_96 (dk_at dksX2_orderHere_1 15 rfl rfl)
theorem dX2_orderHere_38 : decode cX2_orderHere 38 = .ok (.iconst 2, 1) := dk_5 (dk_at dksX2_orderHere_1 16 rfl rfl)
theorem dX2_orderHere_39 : decode cX2_orderHere 39 = .ok (.invokevirtual 173, 3) := dk_182 0 173 (dk_at dksX2_orderHere_1 17 rfl rfl)
theorem dX2_orderHere_42 : decode cX2_orderHere 42 = .ok (.ifCond .eq 7, 3) := dk_153 0 7 (dk_at dksX2_orderHere_1 20 rfl rfl)
theorem dX2_orderHere_45 : decode cX2_orderHere 45 = .ok (.iconst 1, 1) := dk_4 (dk_at dksX2_orderHere_1 23 rfl rfl)
theorem dX2_orderHere_46 : decode cX2_orderHere 46 = .ok (.goto 4, 3) := dk_167 0 4 (dk_at dksX2_orderHere_2 0 rfl rfl)
theorem dX2_orderHere_49 : decode cX2_orderHere 49 = .ok (.iconst 0, 1) := dk_3 (dk_at dksX2_orderHere_2 3 rfl rfl)
theorem dX2_orderHere_50 : decode cX2_orderHere 50 = .ok (.ireturn, 1) := dk_172 (dk_at dksX2_orderHere_2 4 rfl rfl)
theorem dX2_orderHere_51 : decode cX2_orderHere 51 = .ok (.aload_n 0, 1) := dk_42 (dk_at dksX2_orderHere_2 5 rfl rfl)
theorem dX2_orderHere_52 : decode cX2_orderHere 52 = .ok (.bipush 119, 2) := dk_16 119 (dk_at dksX2_orderHere_2 6 rfl rfl)
theorem dX2_orderHere_54 : decode cX2_orderHere 54 = .ok (.invokevirtual 167, 3) := dk_182 0 167 (dk_at dksX2_orderHere_2 8 rfl rfl)
theorem dX2_orderHere_57 : decode cX2_orderHere 57 = .ok (.ifCond .eq 37, 3) := dk_153 0 37 (dk_at dksX2_orderHere_2 11 rfl rfl)
theorem dX2_orderHere_60 : decode cX2_orderHere 60 = .ok (.aload_n 0, 1) := dk_42 (dk_at dksX2_orderHere_2 14 rfl rfl)
theorem dX2_orderHere_61 : decode cX2_orderHere 61 = .ok (.iconst 1, 1) := dk_4 (dk_at dksX2_orderHere_2 15 rfl rfl)
theorem dX2_orderHere_62 : decode cX2_orderHere 62 = .ok (.invokevirtual 179, 3) := dk_182 0 179 (dk_at dksX2_orderHere_2 16 rfl rfl)
theorem dX2_orderHere_65 : decode cX2_orderHere 65 = .ok (.ifCond .eq 27, 3) := dk_153 0 27 (dk_at dksX2_orderHere_2 19 rfl rfl)
theorem dX2_orderHere_68 : decode cX2_orderHere 68 = .ok (.aload_n 0, 1) := dk_42 (dk_at dksX2_orderHere_2 22 rfl rfl)
theorem dX2_orderHere_69 : decode cX2_orderHere 69 = .ok (.ldc 188, 2) := dk_18 188 (dk_at dksX2_orderHere_3 0 rfl rfl)
theorem dX2_orderHere_71 : decode cX2_orderHere 71 = .ok (.invokevirtual 184, 3) := dk_182 0 184 (dk_at dksX2_orderHere_3 2 rfl rfl)
theorem dX2_orderHere_74 : decode cX2_orderHere 74 = .ok (.ifCond .eq 18, 3) := dk_153 0 18 (dk_at dksX2_orderHere_3 5 rfl rfl)
theorem dX2_orderHere_77 : decode cX2_orderHere 77 = .ok (.aload_n 0, 1) := dk_42 (dk_at dksX2_orderHere_3 8 rfl rfl)
theorem dX2_orderHere_78 : decode cX2_orderHere 78 = .ok (.iload_n 1, 1) := dk_27 (dk_at dksX2_orderHere_3 9 rfl rfl)
theorem dX2_orderHere_79 : decode cX2_orderHere 79 = .ok (.iconst 1, 1) := dk_4 (dk_at dksX2_orderHere_3 10 rfl rfl)
theorem dX2_orderHere_80 : decode cX2_orderHere 80 = .ok (.iadd, 1) := dk_96 (dk_at dksX2_orderHere_3 11 rfl rfl)
theorem dX2_orderHere_81 : decode cX2_orderHere 81 = .ok (.iconst 2, 1) := dk_5 (dk_at dksX2_orderHere_3 12 rfl rfl)
theorem dX2_orderHere_82 : decode cX2_orderHere 82 = .ok (.invokevirtual 173, 3) := dk_182 0 173 (dk_at dksX2_orderHere_3 13 rfl rfl)
theorem dX2_orderHere_85 : decode cX2_orderHere 85 = .ok (.ifCond .eq 7, 3) := dk_153 0 7 (dk_at dksX2_orderHere_3 16 rfl rfl)
theorem dX2_orderHere_88 : decode cX2_orderHere 88 = .ok (.iconst 1, 1) := dk_4 (dk_at dksX2_orderHere_3 19 rfl rfl)
theorem dX2_orderHere_89 : decode cX2_orderHere 89 = .ok (.goto 4, 3) := dk_167 0 4 (dk_at dksX2_orderHere_3 20 rfl rfl)
theorem dX2_orderHere_92 : decode cX2_orderHere 92 = .ok (.iconst 0, 1) := dk_3 (dk_at dksX2_orderHere_3 23 rfl rfl)
theorem dX2_orderHere_93 : decode cX2_orderHere 93 = .ok (.ireturn, 1) := dk_172 (dk_at dksX2_orderHere_4 0 rfl rfl)
theorem dX2_orderHere_94 : decode cX2_orderHere 94 = .ok (.aload_n 0, 1) := dk_42 (dk_at dksX2_orderHere_4 1 rfl rfl)
theorem dX2_orderHere_95 : decode cX2_orderHere 95 = .ok (.bipush 116, 2) := dk_16 116 (dk_at dksX2_orderHere_4 2 rfl rfl)
theorem dX2_orderHere_97 : decode cX2_orderHere 97 = .ok (.invokevirtual 167, 3) := dk_182 0 167 (dk_at dksX2_orderHere_4 4 rfl rfl)
theorem dX2_orderHere_100 : decode cX2_orderHere 100 = .ok (.ifCond .eq 37, 3) := dk_153 0 37 (dk_at dksX2_orderHere_4 7 rfl rfl)
theorem dX2_orderHere_103 : decode cX2_orderHere 103 = .ok (.aload_n 0, 1) := dk_42 (dk_at dksX2_orderHere_4 10 rfl rfl)
theorem dX2_orderHere_104 : decode cX2_orderHere 104 = .ok (.iconst 2, 1) := dk_5 (dk_at dksX2_orderHere_4 11 rfl rfl)
theorem dX2_orderHere_105 : decode cX2_orderHere 105 = .ok (.invokevirtual 179, 3) := dk_182 0 179 (dk_at dksX2_orderHere_4 12 rfl rfl)
theorem dX2_orderHere_108 : decode cX2_orderHere 108 = .ok (.ifCond .eq 27, 3) := dk_153 0 27 (dk_at dksX2_orderHere_4 15 rfl rfl)
theorem dX2_orderHere_111 : decode cX2_orderHere 111 = .ok (.aload_n 0, 1) := dk_42 (dk_at dksX2_orderHere_4 18 rfl rfl)
theorem dX2_orderHere_112 : decode cX2_orderHere 112 = .ok (.ldc 190, 2) := dk_18 190 (dk_at dksX2_orderHere_4 19 rfl rfl)
theorem dX2_orderHere_114 : decode cX2_orderHere 114 = .ok (.invokevirtual 184, 3) := dk_182 0 184 (dk_at dksX2_orderHere_4 21 rfl rfl)
theorem dX2_orderHere_117 : decode cX2_orderHere 117 = .ok (.ifCond .eq 18, 3) := dk_153 0 18 (dk_at dksX2_orderHere_5 0 rfl rfl)
theorem dX2_orderHere_120 : decode cX2_orderHere 120 = .ok (.aload_n 0, 1) := dk_42 (dk_at dksX2_orderHere_5 3 rfl rfl)
theorem dX2_orderHere_121 : decode cX2_orderHere 121 = .ok (.iload_n 1, 1) := dk_27 (dk_at dksX2_orderHere_5 4 rfl rfl)
theorem dX2_orderHere_122 : decode cX2_orderHere 122 = .ok (.iconst 1, 1) := dk_4 (dk_at dksX2_orderHere_5 5 rfl rfl)
theorem dX2_orderHere_123 : decode cX2_orderHere 123 = .ok (.iadd, 1) := dk_96 (dk_at dksX2_orderHere_5 6 rfl rfl)
theorem dX2_orderHere_124 : decode cX2_orderHere 124 = .ok (.iconst 1, 1) := dk_4 (dk_at dksX2_orderHere_5 7 rfl rfl)
theorem dX2_orderHere_125 : decode cX2_orderHere 125 = .ok (.invokevirtual 173, 3) := dk_182 0 173 (dk_at dksX2_orderHere_5 8 rfl rfl)
theorem dX2_orderHere_128 : decode cX2_orderHere 128 = .ok (.ifCond .eq 7, 3) := dk_153 0 7 (dk_at dksX2_orderHere_5 11 rfl rfl)
theorem dX2_orderHere_131 : decode cX2_orderHere 131 = .ok (.iconst 1, 1) := dk_4 (dk_at dksX2_orderHere_5 14 rfl rfl)
theorem dX2_orderHere_132 : decode cX2_orderHere 132 = .ok (.goto 4, 3) := dk_167 0 4 (dk_at dksX2_orderHere_5 15 rfl rfl)
theorem dX2_orderHere_135 : decode cX2_orderHere 135 = .ok (.iconst 0, 1) := dk_3 (dk_at dksX2_orderHere_5 18 rfl rfl)
theorem dX2_orderHere_136 : decode cX2_orderHere 136 = .ok (.ireturn, 1) := dk_172 (dk_at dksX2_orderHere_5 19 rfl rfl)
theorem dX2_orderHere_137 : decode cX2_orderHere 137 = .ok (.aload_n 0, 1) := dk_42 (dk_at dksX2_orderHere_5 20 rfl rfl)
theorem dX2_orderHere_138 : decode cX2_orderHere 138 = .ok (.bipush 114, 2) := dk_16 114 (dk_at dksX2_orderHere_5 21 rfl rfl)
theorem dX2_orderHere_140 : decode cX2_orderHere 140 = .ok (.invokevirtual 167, 3) := dk_182 0 167 (dk_at dksX2_orderHere_6 0 rfl rfl)
theorem dX2_orderHere_143 : decode cX2_orderHere 143 = .ok (.ifCond .eq 37, 3) := dk_153 0 37 (dk_at dksX2_orderHere_6 3 rfl rfl)
theorem dX2_orderHere_146 : decode cX2_orderHere 146 = .ok (.aload_n 0, 1) := dk_42 (dk_at dksX2_orderHere_6 6 rfl rfl)
theorem dX2_orderHere_147 : decode cX2_orderHere 147 = .ok (.iconst 5, 1) := dk_8 (dk_at dksX2_orderHere_6 7 rfl rfl)
theorem dX2_orderHere_148 : decode cX2_orderHere 148 = .ok (.invokevirtual 179, 3) := dk_182 0 179 (dk_at dksX2_orderHere_6 8 rfl rfl)
theorem dX2_orderHere_151 : decode cX2_orderHere 151 = .ok (.ifCond .eq 27, 3) := dk_153 0 27 (dk_at dksX2_orderHere_6 11 rfl rfl)
theorem dX2_orderHere_154 : decode cX2_orderHere 154 = .ok (.aload_n 0, 1) := dk_42 (dk_at dksX2_orderHere_6 14 rfl rfl)
theorem dX2_orderHere_155 : decode cX2_orderHere 155 = .ok (.ldc 192, 2) := dk_18 192 (dk_at dksX2_orderHere_6 15 rfl rfl)
theorem dX2_orderHere_157 : decode cX2_orderHere 157 = .ok (.invokevirtual 184, 3) := dk_182 0 184 (dk_at dksX2_orderHere_6 17 rfl rfl)
theorem dX2_orderHere_160 : decode cX2_orderHere 160 = .ok (.ifCond .eq 18, 3) := dk_153 0 18 (dk_at dksX2_orderHere_6 20 rfl rfl)
theorem dX2_orderHere_163 : decode cX2_orderHere 163 = .ok (.aload_n 0, 1) := dk_42 (dk_at dksX2_orderHere_6 23 rfl rfl)
theorem dX2_orderHere_164 : decode cX2_orderHere 164 = .ok (.iload_n 1, 1) := dk_27 (dk_at dksX2_orderHere_7 0 rfl rfl)
theorem dX2_orderHere_165 : decode cX2_orderHere 165 = .ok (.iconst 1, 1) := dk_4 (dk_at dksX2_orderHere_7 1 rfl rfl)
theorem dX2_orderHere_166 : decode cX2_orderHere 166 = .ok (.iadd, 1) := dk_96 (dk_at dksX2_orderHere_7 2 rfl rfl)
theorem dX2_orderHere_167 : decode cX2_orderHere 167 = .ok (.iconst 2, 1) := dk_5 (dk_at dksX2_orderHere_7 3 rfl rfl)
theorem dX2_orderHere_168 : decode cX2_orderHere 168 = .ok (.invokevirtual 173, 3) := dk_182 0 173 (dk_at dksX2_orderHere_7 4 rfl rfl)
theorem dX2_orderHere_171 : decode cX2_orderHere 171 = .ok (.ifCond .eq 7, 3) := dk_153 0 7 (dk_at dksX2_orderHere_7 7 rfl rfl)
theorem dX2_orderHere_174 : decode cX2_orderHere 174 = .ok (.iconst 1, 1) := dk_4 (dk_at dksX2_orderHere_7 10 rfl rfl)
theorem dX2_orderHere_175 : decode cX2_orderHere 175 = .ok (.goto 4, 3) := dk_167 0 4 (dk_at dksX2_orderHere_7 11 rfl rfl)
theorem dX2_orderHere_178 : decode cX2_orderHere 178 = .ok (.iconst 0, 1) := dk_3 (dk_at dksX2_orderHere_7 14 rfl rfl)
theorem dX2_orderHere_179 : decode cX2_orderHere 179 = .ok (.ireturn, 1) := dk_172 (dk_at dksX2_orderHere_7 15 rfl rfl)
theorem dX2_orderHere_180 : decode cX2_orderHere 180 = .ok (.aload_n 0, 1) := dk_42 (dk_at dksX2_orderHere_7 16 rfl rfl)
theorem dX2_orderHere_181 : decode cX2_orderHere 181 = .ok (.bipush 107, 2) := dk_16 107 (dk_at dksX2_orderHere_7 17 rfl rfl)
theorem dX2_orderHere_183 : decode cX2_orderHere 183 = .ok (.invokevirtual 167, 3) := dk_182 0 167 (dk_at dksX2_orderHere_7 19 rfl rfl)
theorem dX2_orderHere_186 : decode cX2_orderHere 186 = .ok (.ifCond .eq 58, 3) := dk_153 0 58 (dk_at dksX2_orderHere_8 0 rfl rfl)
theorem dX2_orderHere_189 : decode cX2_orderHere 189 = .ok (.aload_n 0, 1) := dk_42 (dk_at dksX2_orderHere_8 3 rfl rfl)
theorem dX2_orderHere_190 : decode cX2_orderHere 190 = .ok (.bipush 6, 2) := dk_16 6 (dk_at dksX2_orderHere_8 4 rfl rfl)
theorem dX2_orderHere_192 : decode cX2_orderHere 192 = .ok (.invokevirtual 179, 3) := dk_182 0 179 (dk_at dksX2_orderHere_8 6 rfl rfl)
theorem dX2_orderHere_195 : decode cX2_orderHere 195 = .ok (.ifCond .eq 47, 3) := dk_153 0 47 (dk_at dksX2_orderHere_8 9 rfl rfl)
theorem dX2_orderHere_198 : decode cX2_orderHere 198 = .ok (.aload_n 0, 1) := dk_42 (dk_at dksX2_orderHere_8 12 rfl rfl)
theorem dX2_orderHere_199 : decode cX2_orderHere 199 = .ok (.ldc 194, 2) := dk_18 194 (dk_at dksX2_orderHere_8 13 rfl rfl)
theorem dX2_orderHere_201 : decode cX2_orderHere 201 = .ok (.invokevirtual 184, 3) := dk_182 0 184 (dk_at dksX2_orderHere_8 15 rfl rfl)
theorem dX2_orderHere_204 : decode cX2_orderHere 204 = .ok (.ifCond .eq 38, 3) := dk_153 0 38 (dk_at dksX2_orderHere_8 18 rfl rfl)
theorem dX2_orderHere_207 : decode cX2_orderHere 207 = .ok (.aload_n 0, 1) := dk_42 (dk_at dksX2_orderHere_8 21 rfl rfl)
theorem dX2_orderHere_208 : decode cX2_orderHere 208 = .ok (.iload_n 1, 1) := dk_27 (dk_at dksX2_orderHere_8 22 rfl rfl)
theorem dX2_orderHere_209 : decode cX2_orderHere 209 = .ok (.iconst 1, 1) := dk_4 (dk_at dksX2_orderHere_8 23 rfl rfl)
theorem dX2_orderHere_210 : decode cX2_orderHere 210 = .ok (.iadd, 1) := dk_96 (dk_at dksX2_orderHere_9 0 rfl rfl)
theorem dX2_orderHere_211 : decode cX2_orderHere 211 = .ok (.iconst 1, 1) := dk_4 (dk_at dksX2_orderHere_9 1 rfl rfl)
theorem dX2_orderHere_212 : decode cX2_orderHere 212 = .ok (.invokevirtual 173, 3) := dk_182 0 173 (dk_at dksX2_orderHere_9 2 rfl rfl)
theorem dX2_orderHere_215 : decode cX2_orderHere 215 = .ok (.ifCond .eq 27, 3) := dk_153 0 27 (dk_at dksX2_orderHere_9 5 rfl rfl)
theorem dX2_orderHere_218 : decode cX2_orderHere 218 = .ok (.aload_n 0, 1) := dk_42 (dk_at dksX2_orderHere_9 8 rfl rfl)
theorem dX2_orderHere_219 : decode cX2_orderHere 219 = .ok (.bipush 32, 2) := dk_16 32 (dk_at dksX2_orderHere_9 9 rfl rfl)
theorem dX2_orderHere_221 : decode cX2_orderHere 221 = .ok (.invokevirtual 167, 3) := dk_182 0 167 (dk_at dksX2_orderHere_9 11 rfl rfl)
theorem dX2_orderHere_224 : decode cX2_orderHere 224 = .ok (.ifCond .eq 18, 3) := dk_153 0 18 (dk_at dksX2_orderHere_9 14 rfl rfl)
theorem dX2_orderHere_227 : decode cX2_orderHere 227 = .ok (.aload_n 0, 1) := dk_42 (dk_at dksX2_orderHere_9 17 rfl rfl)
theorem dX2_orderHere_228 : decode cX2_orderHere 228 = .ok (.iload_n 1, 1) := dk_27 (dk_at dksX2_orderHere_9 18 rfl rfl)
theorem dX2_orderHere_229 : decode cX2_orderHere 229 = .ok (.iconst 2, 1) := dk_5 (dk_at dksX2_orderHere_9 19 rfl rfl)
theorem dX2_orderHere_230 : decode cX2_orderHere 230 = .ok (.iadd, 1) := dk_96 (dk_at dksX2_orderHere_9 20 rfl rfl)
theorem dX2_orderHere_231 : decode cX2_orderHere 231 = .ok (.iconst 1, 1) := dk_4 (dk_at dksX2_orderHere_9 21 rfl rfl)
theorem dX2_orderHere_232 : decode cX2_orderHere 232 = .ok (.invokevirtual 173, 3) := dk_182 0 173 (dk_at dksX2_orderHere_10 0 rfl rfl)
theorem dX2_orderHere_235 : decode cX2_orderHere 235 = .ok (.ifCond .eq 7, 3) := dk_153 0 7 (dk_at dksX2_orderHere_10 3 rfl rfl)
theorem dX2_orderHere_238 : decode cX2_orderHere 238 = .ok (.iconst 1, 1) := dk_4 (dk_at dksX2_orderHere_10 6 rfl rfl)
theorem dX2_orderHere_239 : decode cX2_orderHere 239 = .ok (.goto 4, 3) := dk_167 0 4 (dk_at dksX2_orderHere_10 7 rfl rfl)
theorem dX2_orderHere_242 : decode cX2_orderHere 242 = .ok (.iconst 0, 1) := dk_3 (dk_at dksX2_orderHere_10 10 rfl rfl)
theorem dX2_orderHere_243 : decode cX2_orderHere 243 = .ok (.ireturn, 1) := dk_172 (dk_at dksX2_orderHere_10 11 rfl rfl)
theorem dX2_orderHere_244 : decode cX2_orderHere 244 = .ok (.aload_n 0, 1) := dk_42 (dk_at dksX2_orderHere_10 12 rfl rfl)
theorem dX2_orderHere_245 : decode cX2_orderHere 245 = .ok (.bipush 100, 2) := dk_16 100 (dk_at dksX2_orderHere_10 13 rfl rfl)
theorem dX2_orderHere_247 : decode cX2_orderHere 247 = .ok (.invokevirtual 167, 3) := dk_182 0 167 (dk_at dksX2_orderHere_10 15 rfl rfl)
theorem dX2_orderHere_250 : decode cX2_orderHere 250 = .ok (.ifCond .eq 35, 3) := dk_153 0 35 (dk_at dksX2_orderHere_10 18 rfl rfl)
theorem dX2_orderHere_253 : decode cX2_orderHere 253 = .ok (.aload_n 0, 1) := dk_42 (dk_at dksX2_orderHere_10 21 rfl rfl)
theorem dX2_orderHere_254 : decode cX2_orderHere 254 = .ok (.bipush 7, 2) := dk_16 7 (dk_at dksX2_orderHere_10 22 rfl rfl)
theorem dX2_orderHere_256 : decode cX2_orderHere 256 = .ok (.invokevirtual 179, 3) := dk_182 0 179 (dk_at dksX2_orderHere_11 0 rfl rfl)
theorem dX2_orderHere_259 : decode cX2_orderHere 259 = .ok (.ifCond .eq 24, 3) := dk_153 0 24 (dk_at dksX2_orderHere_11 3 rfl rfl)
theorem dX2_orderHere_262 : decode cX2_orderHere 262 = .ok (.aload_n 0, 1) := dk_42 (dk_at dksX2_orderHere_11 6 rfl rfl)
theorem dX2_orderHere_263 : decode cX2_orderHere 263 = .ok (.ldc 196, 2) := dk_18 196 (dk_at dksX2_orderHere_11 7 rfl rfl)
theorem dX2_orderHere_265 : decode cX2_orderHere 265 = .ok (.invokevirtual 184, 3) := dk_182 0 184 (dk_at dksX2_orderHere_11 9 rfl rfl)
theorem dX2_orderHere_268 : decode cX2_orderHere 268 = .ok (.ifCond .eq 15, 3) := dk_153 0 15 (dk_at dksX2_orderHere_11 12 rfl rfl)
theorem dX2_orderHere_271 : decode cX2_orderHere 271 = .ok (.aload_n 0, 1) := dk_42 (dk_at dksX2_orderHere_11 15 rfl rfl)
theorem dX2_orderHere_272 : decode cX2_orderHere 272 = .ok (.iload_n 1, 1) := dk_27 (dk_at dksX2_orderHere_11 16 rfl rfl)
theorem dX2_orderHere_273 : decode cX2_orderHere 273 = .ok (.invokevirtual 198, 3) := dk_182 0 198 (dk_at dksX2_orderHere_11 17 rfl rfl)
theorem dX2_orderHere_276 : decode cX2_orderHere 276 = .ok (.ifCond .eq 7, 3) := dk_153 0 7 (dk_at dksX2_orderHere_11 20 rfl rfl)
theorem dX2_orderHere_279 : decode cX2_orderHere 279 = .ok (.iconst 1, 1) := dk_4 (dk_at dksX2_orderHere_11 23 rfl rfl)
theorem dX2_orderHere_280 : decode cX2_orderHere 280 = .ok (.goto 4, 3) := dk_167 0 4 (dk_at dksX2_orderHere_12 0 rfl rfl)
theorem dX2_orderHere_283 : decode cX2_orderHere 283 = .ok (.iconst 0, 1) := dk_3 (dk_at dksX2_orderHere_12 3 rfl rfl)
theorem dX2_orderHere_284 : decode cX2_orderHere 284 = .ok (.ireturn, 1) := dk_172 (dk_at dksX2_orderHere_12 4 rfl rfl)
theorem dX2_orderHere_285 : decode cX2_orderHere 285 = .ok (.aload_n 0, 1) := dk_42 (dk_at dksX2_orderHere_12 5 rfl rfl)
theorem dX2_orderHere_286 : decode cX2_orderHere 286 = .ok (.bipush 111, 2) := dk_16 111 (dk_at dksX2_orderHere_12 6 rfl rfl)
theorem dX2_orderHere_288 : decode cX2_orderHere 288 = .ok (.invokevirtual 167, 3) := dk_182 0 167 (dk_at dksX2_orderHere_12 8 rfl rfl)
theorem dX2_orderHere_291 : decode cX2_orderHere 291 = .ok (.ifCond .ne 5, 3) := dk_154 0 5 (dk_at dksX2_orderHere_12 11 rfl rfl)
theorem dX2_orderHere_294 : decode cX2_orderHere 294 = .ok (.iconst 0, 1) := dk_3 (dk_at dksX2_orderHere_12 14 rfl rfl)
theorem dX2_orderHere_295 : decode cX2_orderHere 295 = .ok (.ireturn, 1) := dk_172 (dk_at dksX2_orderHere_12 15 rfl rfl)
theorem dX2_orderHere_296 : decode cX2_orderHere 296 = .ok (.aload_n 0, 1) := dk_42 (dk_at dksX2_orderHere_12 16 rfl rfl)
theorem dX2_orderHere_297 : decode cX2_orderHere 297 = .ok (.bipush 112, 2) := dk_16 112 (dk_at dksX2_orderHere_12 17 rfl rfl)
theorem dX2_orderHere_299 : decode cX2_orderHere 299 = .ok (.invokevirtual 167, 3) := dk_182 0 167 (dk_at dksX2_orderHere_12 19 rfl rfl)
theorem dX2_orderHere_302 : decode cX2_orderHere 302 = .ok (.ifCond .eq 37, 3) := dk_153 0 37 (dk_at dksX2_orderHere_13 0 rfl rfl)
theorem dX2_orderHere_305 : decode cX2_orderHere 305 = .ok (.aload_n 0, 1) := dk_42 (dk_at dksX2_orderHere_13 3 rfl rfl)
theorem dX2_orderHere_306 : decode cX2_orderHere 306 = .ok (.iconst 3, 1) := dk_6 (dk_at dksX2_orderHere_13 4 rfl rfl)
theorem dX2_orderHere_307 : decode cX2_orderHere 307 = .ok (.invokevirtual 179, 3) := dk_182 0 179 (dk_at dksX2_orderHere_13 5 rfl rfl)
theorem dX2_orderHere_310 : decode cX2_orderHere 310 = .ok (.ifCond .eq 27, 3) := dk_153 0 27 (dk_at dksX2_orderHere_13 8 rfl rfl)
theorem dX2_orderHere_313 : decode cX2_orderHere 313 = .ok (.aload_n 0, 1) := dk_42 (dk_at dksX2_orderHere_13 11 rfl rfl)
theorem dX2_orderHere_314 : decode cX2_orderHere 314 = .ok (.ldc 201, 2) := dk_18 201 (dk_at dksX2_orderHere_13 12 rfl rfl)
theorem dX2_orderHere_316 : decode cX2_orderHere 316 = .ok (.invokevirtual 184, 3) := dk_182 0 184 (dk_at dksX2_orderHere_13 14 rfl rfl)
theorem dX2_orderHere_319 : decode cX2_orderHere 319 = .ok (.ifCond .eq 18, 3) := dk_153 0 18 (dk_at dksX2_orderHere_13 17 rfl rfl)
theorem dX2_orderHere_322 : decode cX2_orderHere 322 = .ok (.aload_n 0, 1) := dk_42 (dk_at dksX2_orderHere_13 20 rfl rfl)
theorem dX2_orderHere_323 : decode cX2_orderHere 323 = .ok (.iload_n 1, 1) := dk_27 (dk_at dksX2_orderHere_13 21 rfl rfl)
theorem dX2_orderHere_324 : decode cX2_orderHere 324 = .ok (.iconst 1, 1) := dk_4 (dk_at dksX2_orderHere_13 22 rfl rfl)
theorem dX2_orderHere_325 : decode cX2_orderHere 325 = .ok (.iadd, 1) := dk_96 (dk_at dksX2_orderHere_13 23 rfl rfl)
theorem dX2_orderHere_326 : decode cX2_orderHere 326 = .ok (.iconst 2, 1) := dk_5 (dk_at dksX2_orderHere_14 0 rfl rfl)
theorem dX2_orderHere_327 : decode cX2_orderHere 327 = .ok (.invokevirtual 173, 3) := dk_182 0 173 (dk_at dksX2_orderHere_14 1 rfl rfl)
theorem dX2_orderHere_330 : decode cX2_orderHere 330 = .ok (.ifCond .eq 7, 3) := dk_153 0 7 (dk_at dksX2_orderHere_14 4 rfl rfl)
theorem dX2_orderHere_333 : decode cX2_orderHere 333 = .ok (.iconst 1, 1) := dk_4 (dk_at dksX2_orderHere_14 7 rfl rfl)
theorem dX2_orderHere_334 : decode cX2_orderHere 334 = .ok (.goto 4, 3) := dk_167 0 4 (dk_at dksX2_orderHere_14 8 rfl rfl)
theorem dX2_orderHere_337 : decode cX2_orderHere 337 = .ok (.iconst 0, 1) := dk_3 (dk_at dksX2_orderHere_14 11 rfl rfl)
theorem dX2_orderHere_338 : decode cX2_orderHere 338 = .ok (.ireturn, 1) := dk_172 (dk_at dksX2_orderHere_14 12 rfl rfl)
theorem dX2_orderHere_339 : decode cX2_orderHere 339 = .ok (.aload_n 0, 1) := dk_42 (dk_at dksX2_orderHere_14 13 rfl rfl)
theorem dX2_orderHere_340 : decode cX2_orderHere 340 = .ok (.iconst 4, 1) := dk_7 (dk_at dksX2_orderHere_14 14 rfl rfl)
theorem dX2_orderHere_341 : decode cX2_orderHere 341 = .ok (.invokevirtual 179, 3) := dk_182 0 179 (dk_at dksX2_orderHere_14 15 rfl rfl)
theorem dX2_orderHere_344 : decode cX2_orderHere 344 = .ok (.ifCond .eq 47, 3) := dk_153 0 47 (dk_at dksX2_orderHere_14 18 rfl rfl)
theorem dX2_orderHere_347 : decode cX2_orderHere 347 = .ok (.aload_n 0, 1) := dk_42 (dk_at dksX2_orderHere_14 21 rfl rfl)
theorem dX2_orderHere_348 : decode cX2_orderHere 348 = .ok (.ldc 203, 2) := dk_18 203 (dk_at dksX2_orderHere_14 22 rfl rfl)
theorem dX2_orderHere_350 : decode cX2_orderHere 350 = .ok (.invokevirtual 184, 3) := dk_182 0 184 (dk_at dksX2_orderHere_15 0 rfl rfl)
theorem dX2_orderHere_353 : decode cX2_orderHere 353 = .ok (.ifCond .eq 38, 3) := dk_153 0 38 (dk_at dksX2_orderHere_15 3 rfl rfl)
theorem dX2_orderHere_356 : decode cX2_orderHere 356 = .ok (.aload_n 0, 1) := dk_42 (dk_at dksX2_orderHere_15 6 rfl rfl)
theorem dX2_orderHere_357 : decode cX2_orderHere 357 = .ok (.iload_n 1, 1) := dk_27 (dk_at dksX2_orderHere_15 7 rfl rfl)
theorem dX2_orderHere_358 : decode cX2_orderHere 358 = .ok (.iconst 1, 1) := dk_4 (dk_at dksX2_orderHere_15 8 rfl rfl)
theorem dX2_orderHere_359 : decode cX2_orderHere 359 = .ok (.iadd, 1) := dk_96 (dk_at dksX2_orderHere_15 9 rfl rfl)
theorem dX2_orderHere_360 : decode cX2_orderHere 360 = .ok (.iconst 1, 1) := dk_4 (dk_at dksX2_orderHere_15 10 rfl rfl)
theorem dX2_orderHere_361 : decode cX2_orderHere 361 = .ok (.invokevirtual 173, 3) := dk_182 0 173 (dk_at dksX2_orderHere_15 11 rfl rfl)
theorem dX2_orderHere_364 : decode cX2_orderHere 364 = .ok (.ifCond .eq 27, 3) := dk_153 0 27 (dk_at dksX2_orderHere_15 14 rfl rfl)
theorem dX2_orderHere_367 : decode cX2_orderHere 367 = .ok (.aload_n 0, 1) := dk_42 (dk_at dksX2_orderHere_15 17 rfl rfl)
theorem dX2_orderHere_368 : decode cX2_orderHere 368 = .ok (.bipush 32, 2) := dk_16 32 (dk_at dksX2_orderHere_15 18 rfl rfl)
theorem dX2_orderHere_370 : decode cX2_orderHere 370 = .ok (.invokevirtual 167, 3) := dk_182 0 167 (dk_at dksX2_orderHere_15 20 rfl rfl)
theorem dX2_orderHere_373 : decode cX2_orderHere 373 = .ok (.ifCond .eq 18, 3) := dk_153 0 18 (dk_at dksX2_orderHere_16 0 rfl rfl)
theorem dX2_orderHere_376 : decode cX2_orderHere 376 = .ok (.aload_n 0, 1) := dk_42 (dk_at dksX2_orderHere_16 3 rfl rfl)
theorem dX2_orderHere_377 : decode cX2_orderHere 377 = .ok (.iload_n 1, 1) := dk_27 (dk_at dksX2_orderHere_16 4 rfl rfl)
theorem dX2_orderHere_378 : decode cX2_orderHere 378 = .ok (.iconst 2, 1) := dk_5 (dk_at dksX2_orderHere_16 5 rfl rfl)
theorem dX2_orderHere_379 : decode cX2_orderHere 379 = .ok (.iadd, 1) := dk_96 (dk_at dksX2_orderHere_16 6 rfl rfl)
theorem dX2_orderHere_380 : decode cX2_orderHere 380 = .ok (.iconst 2, 1) := dk_5 (dk_at dksX2_orderHere_16 7 rfl rfl)
theorem dX2_orderHere_381 : decode cX2_orderHere 381 = .ok (.invokevirtual 173, 3) := dk_182 0 173 (dk_at dksX2_orderHere_16 8 rfl rfl)
theorem dX2_orderHere_384 : decode cX2_orderHere 384 = .ok (.ifCond .eq 7, 3) := dk_153 0 7 (dk_at dksX2_orderHere_16 11 rfl rfl)
theorem dX2_orderHere_387 : decode cX2_orderHere 387 = .ok (.iconst 1, 1) := dk_4 (dk_at dksX2_orderHere_16 14 rfl rfl)
theorem dX2_orderHere_388 : decode cX2_orderHere 388 = .ok (.goto 4, 3) := dk_167 0 4 (dk_at dksX2_orderHere_16 15 rfl rfl)
theorem dX2_orderHere_391 : decode cX2_orderHere 391 = .ok (.iconst 0, 1) := dk_3 (dk_at dksX2_orderHere_16 18 rfl rfl)
theorem dX2_orderHere_392 : decode cX2_orderHere 392 = .ok (.ireturn, 1) := dk_172 (dk_at dksX2_orderHere_16 19 rfl rfl)
abbrev cX2_skips : ByteArray := prog_11_method_50_code
def yX2_skips : MethodName := ⟨RX2, "skips", "(I)Z"⟩
def dkwX2_skips_0 : List UInt8 := [42, 182, 0, 156, 27, 159, 0, 5, 3, 172, 42, 89, 180, 0, 153, 4, 96, 181, 0, 153, 4, 172]
abbrev dktX2_skips_0 : List UInt8 := dkwX2_skips_0 ++ []
theorem dksX2_skips_0 : cX2_skips.data.toList.drop 0 = dktX2_skips_0 := by decide +kernel
theorem dX2_skips_0 : decode cX2_skips 0 = .ok (.aload_n 0, 1) := dk_42 (dk_at dksX2_skips_0 0 rfl rfl)
theorem dX2_skips_1 : decode cX2_skips 1 = .ok (.invokevirtual 156, 3) := dk_182 0 156 (dk_at dksX2_skips_0 1 rfl rfl)
theorem dX2_skips_4 : decode cX2_skips 4 = .ok (.iload_n 1, 1) := dk_27 (dk_at dksX2_skips_0 4 rfl rfl)
theorem dX2_skips_5 : decode cX2_skips 5 = .ok (.if_icmp .eq 5, 3) := dk_159 0 5 (dk_at dksX2_skips_0 5 rfl rfl)
theorem dX2_skips_8 : decode cX2_skips 8 = .ok (.iconst 0, 1) := dk_3 (dk_at dksX2_skips_0 8 rfl rfl)
theorem dX2_skips_9 : decode cX2_skips 9 = .ok (.ireturn, 1) := dk_172 (dk_at dksX2_skips_0 9 rfl rfl)
theorem dX2_skips_10 : decode cX2_skips 10 = .ok (.aload_n 0, 1) := dk_42 (dk_at dksX2_skips_0 10 rfl rfl)
theorem dX2_skips_11 : decode cX2_skips 11 = .ok (.dup, 1) := dk_89 (dk_at dksX2_skips_0 11 rfl rfl)
theorem dX2_skips_12 : decode cX2_skips 12 = .ok (.getfield 153, 3) := dk_180 0 153 (dk_at dksX2_skips_0 12 rfl rfl)
theorem dX2_skips_15 : decode cX2_skips 15 = .ok (.iconst 1, 1) := dk_4 (dk_at dksX2_skips_0 15 rfl rfl)
theorem dX2_skips_16 : decode cX2_skips 16 = .ok (.iadd, 1) := dk_96 (dk_at dksX2_skips_0 16 rfl rfl)
theorem dX2_skips_17 : decode cX2_skips 17 = .ok (.putfield 153, 3) := dk_181 0 153 (dk_at dksX2_skips_0 17 rfl rfl)
theorem dX2_skips_20 : decode cX2_skips 20 = .ok (.iconst 1, 1) := dk_4 (dk_at dksX2_skips_0 20 rfl rfl)
theorem dX2_skips_21 : decode cX2_skips 21 = .ok (.ireturn, 1) := dk_172 (dk_at dksX2_skips_0 21 rfl rfl)
abbrev cX2_here : ByteArray := prog_11_method_49_code
def yX2_here : MethodName := ⟨RX2, "here", "()I"⟩
def dkwX2_here_1 : List UInt8 := [172]
abbrev dktX2_here_1 : List UInt8 := dkwX2_here_1 ++ []
def dkwX2_here_0 : List UInt8 := [42, 180, 0, 153, 42, 180, 0, 150, 162, 0, 15, 42, 180, 0, 22, 42, 180, 0, 153, 46, 167, 0, 4, 2]
abbrev dktX2_here_0 : List UInt8 := dkwX2_here_0 ++ dktX2_here_1
theorem dksX2_here_0 : cX2_here.data.toList.drop 0 = dktX2_here_0 := by decide +kernel
theorem dksX2_here_1 : cX2_here.data.toList.drop 24 = dktX2_here_1 := dk_seg dksX2_here_0 24 rfl rfl
theorem dX2_here_0 : decode cX2_here 0 = .ok (.aload_n 0, 1) := dk_42 (dk_at dksX2_here_0 0 rfl rfl)
theorem dX2_here_1 : decode cX2_here 1 = .ok (.getfield 153, 3) := dk_180 0 153 (dk_at dksX2_here_0 1 rfl rfl)
theorem dX2_here_4 : decode cX2_here 4 = .ok (.aload_n 0, 1) := dk_42 (dk_at dksX2_here_0 4 rfl rfl)
theorem dX2_here_5 : decode cX2_here 5 = .ok (.getfield 150, 3) := dk_180 0 150 (dk_at dksX2_here_0 5 rfl rfl)
theorem dX2_here_8 : decode cX2_here 8 = .ok (.if_icmp .ge 15, 3) := dk_162 0 15 (dk_at dksX2_here_0 8 rfl rfl)
theorem dX2_here_11 : decode cX2_here 11 = .ok (.aload_n 0, 1) := dk_42 (dk_at dksX2_here_0 11 rfl rfl)
theorem dX2_here_12 : decode cX2_here 12 = .ok (.getfield 22, 3) := dk_180 0 22 (dk_at dksX2_here_0 12 rfl rfl)
theorem dX2_here_15 : decode cX2_here 15 = .ok (.aload_n 0, 1) := dk_42 (dk_at dksX2_here_0 15 rfl rfl)
theorem dX2_here_16 : decode cX2_here 16 = .ok (.getfield 153, 3) := dk_180 0 153 (dk_at dksX2_here_0 16 rfl rfl)
theorem dX2_here_19 : decode cX2_here 19 = .ok (.iaload, 1) := dk_46 (dk_at dksX2_here_0 19 rfl rfl)
theorem dX2_here_20 : decode cX2_here 20 = .ok (.goto 4, 3) := dk_167 0 4 (dk_at dksX2_here_0 20 rfl rfl)
theorem dX2_here_23 : decode cX2_here 23 = .ok (.iconst (-1), 1) := dk_2 (dk_at dksX2_here_0 23 rfl rfl)
theorem dX2_here_24 : decode cX2_here 24 = .ok (.ireturn, 1) := dk_172 (dk_at dksX2_here_1 0 rfl rfl)
abbrev cX2_hasOrder : ByteArray := prog_11_method_53_code
def yX2_hasOrder : MethodName := ⟨RX2, "hasOrder", "(I)Z"⟩
def dkwX2_hasOrder_0 : List UInt8 := [42, 180, 0, 34, 16, 6, 42, 180, 0, 170, 104, 27, 79, 4, 172]
abbrev dktX2_hasOrder_0 : List UInt8 := dkwX2_hasOrder_0 ++ []
theorem dksX2_hasOrder_0 : cX2_hasOrder.data.toList.drop 0 = dktX2_hasOrder_0 := by decide +kernel
theorem dX2_hasOrder_0 : decode cX2_hasOrder 0 = .ok (.aload_n 0, 1) := dk_42 (dk_at dksX2_hasOrder_0 0 rfl rfl)
theorem dX2_hasOrder_1 : decode cX2_hasOrder 1 = .ok (.getfield 34, 3) := dk_180 0 34 (dk_at dksX2_hasOrder_0 1 rfl rfl)
theorem dX2_hasOrder_4 : decode cX2_hasOrder 4 = .ok (.bipush 6, 2) := dk_16 6 (dk_at dksX2_hasOrder_0 4 rfl rfl)
theorem dX2_hasOrder_6 : decode cX2_hasOrder 6 = .ok (.aload_n 0, 1) := dk_42 (dk_at dksX2_hasOrder_0 6 rfl rfl)
theorem dX2_hasOrder_7 : decode cX2_hasOrder 7 = .ok (.getfield 170, 3) := dk_180 0 170 (dk_at dksX2_hasOrder_0 7 rfl rfl)
theorem dX2_hasOrder_10 : decode cX2_hasOrder 10 = .ok (.imul, 1) := dk_104 (dk_at dksX2_hasOrder_0 10 rfl rfl)
theorem dX2_hasOrder_11 : decode cX2_hasOrder 11 = .ok (.iload_n 1, 1) := dk_27 (dk_at dksX2_hasOrder_0 11 rfl rfl)
theorem dX2_hasOrder_12 : decode cX2_hasOrder 12 = .ok (.iastore, 1) := dk_79 (dk_at dksX2_hasOrder_0 12 rfl rfl)
theorem dX2_hasOrder_13 : decode cX2_hasOrder 13 = .ok (.iconst 1, 1) := dk_4 (dk_at dksX2_hasOrder_0 13 rfl rfl)
theorem dX2_hasOrder_14 : decode cX2_hasOrder 14 = .ok (.ireturn, 1) := dk_172 (dk_at dksX2_hasOrder_0 14 rfl rfl)
abbrev cX2_isWord : ByteArray := prog_11_method_51_code
def yX2_isWord : MethodName := ⟨RX2, "isWord", "(Ljava/lang/String;)Z"⟩
def dkwX2_isWord_1 : List UInt8 := [132, 2, 1, 167, 255, 231, 4, 172]
abbrev dktX2_isWord_1 : List UInt8 := dkwX2_isWord_1 ++ []
def dkwX2_isWord_0 : List UInt8 := [3, 61, 28, 43, 182, 0, 159, 162, 0, 23, 42, 43, 28, 182, 0, 163, 182, 0, 167, 154, 0, 5, 3, 172]
abbrev dktX2_isWord_0 : List UInt8 := dkwX2_isWord_0 ++ dktX2_isWord_1
theorem dksX2_isWord_0 : cX2_isWord.data.toList.drop 0 = dktX2_isWord_0 := by decide +kernel
theorem dksX2_isWord_1 : cX2_isWord.data.toList.drop 24 = dktX2_isWord_1 := dk_seg dksX2_isWord_0 24 rfl rfl
theorem dX2_isWord_0 : decode cX2_isWord 0 = .ok (.iconst 0, 1) := dk_3 (dk_at dksX2_isWord_0 0 rfl rfl)
theorem dX2_isWord_1 : decode cX2_isWord 1 = .ok (.istore_n 2, 1) := dk_61 (dk_at dksX2_isWord_0 1 rfl rfl)
theorem dX2_isWord_2 : decode cX2_isWord 2 = .ok (.iload_n 2, 1) := dk_28 (dk_at dksX2_isWord_0 2 rfl rfl)
theorem dX2_isWord_3 : decode cX2_isWord 3 = .ok (.aload_n 1, 1) := dk_43 (dk_at dksX2_isWord_0 3 rfl rfl)
theorem dX2_isWord_4 : decode cX2_isWord 4 = .ok (.invokevirtual 159, 3) := dk_182 0 159 (dk_at dksX2_isWord_0 4 rfl rfl)
theorem dX2_isWord_7 : decode cX2_isWord 7 = .ok (.if_icmp .ge 23, 3) := dk_162 0 23 (dk_at dksX2_isWord_0 7 rfl rfl)
theorem dX2_isWord_10 : decode cX2_isWord 10 = .ok (.aload_n 0, 1) := dk_42 (dk_at dksX2_isWord_0 10 rfl rfl)
theorem dX2_isWord_11 : decode cX2_isWord 11 = .ok (.aload_n 1, 1) := dk_43 (dk_at dksX2_isWord_0 11 rfl rfl)
theorem dX2_isWord_12 : decode cX2_isWord 12 = .ok (.iload_n 2, 1) := dk_28 (dk_at dksX2_isWord_0 12 rfl rfl)
theorem dX2_isWord_13 : decode cX2_isWord 13 = .ok (.invokevirtual 163, 3) := dk_182 0 163 (dk_at dksX2_isWord_0 13 rfl rfl)
theorem dX2_isWord_16 : decode cX2_isWord 16 = .ok (.invokevirtual 167, 3) := dk_182 0 167 (dk_at dksX2_isWord_0 16 rfl rfl)
theorem dX2_isWord_19 : decode cX2_isWord 19 = .ok (.ifCond .ne 5, 3) := dk_154 0 5 (dk_at dksX2_isWord_0 19 rfl rfl)
theorem dX2_isWord_22 : decode cX2_isWord 22 = .ok (.iconst 0, 1) := dk_3 (dk_at dksX2_isWord_0 22 rfl rfl)
theorem dX2_isWord_23 : decode cX2_isWord 23 = .ok (.ireturn, 1) := dk_172 (dk_at dksX2_isWord_0 23 rfl rfl)
theorem dX2_isWord_24 : decode cX2_isWord 24 = .ok (.iinc 2 1, 3) := dk_132 2 1 (dk_at dksX2_isWord_1 0 rfl rfl)
theorem dX2_isWord_27 : decode cX2_isWord 27 = .ok (.goto (-25), 3) := dk_167 255 231 (dk_at dksX2_isWord_1 3 rfl rfl)
theorem dX2_isWord_30 : decode cX2_isWord 30 = .ok (.iconst 1, 1) := dk_4 (dk_at dksX2_isWord_1 6 rfl rfl)
theorem dX2_isWord_31 : decode cX2_isWord 31 = .ok (.ireturn, 1) := dk_172 (dk_at dksX2_isWord_1 7 rfl rfl)
abbrev cX2_figures : ByteArray := prog_11_method_52_code
def yX2_figures : MethodName := ⟨RX2, "figures", "(II)Z"⟩
def dkwX2_figures_3 : List UInt8 := [4, 96, 181, 0, 153, 132, 3, 1, 167, 255, 201, 4, 172]
abbrev dktX2_figures_3 : List UInt8 := dkwX2_figures_3 ++ []
def dkwX2_figures_2 : List UInt8 := [27, 16, 10, 42, 180, 0, 34, 27, 46, 104, 42, 182, 0, 156, 96, 16, 48, 100, 79, 42, 89, 180, 0, 153]
abbrev dktX2_figures_2 : List UInt8 := dkwX2_figures_2 ++ dktX2_figures_3
def dkwX2_figures_1 : List UInt8 := [62, 29, 28, 162, 0, 56, 42, 182, 0, 156, 16, 48, 16, 57, 184, 0, 55, 153, 0, 42, 42, 180, 0, 34]
abbrev dktX2_figures_1 : List UInt8 := dkwX2_figures_1 ++ dktX2_figures_2
def dkwX2_figures_0 : List UInt8 := [42, 182, 0, 156, 16, 48, 16, 57, 184, 0, 55, 154, 0, 5, 3, 172, 42, 180, 0, 34, 27, 3, 79, 3]
abbrev dktX2_figures_0 : List UInt8 := dkwX2_figures_0 ++ dktX2_figures_1
theorem dksX2_figures_0 : cX2_figures.data.toList.drop 0 = dktX2_figures_0 := by decide +kernel
theorem dksX2_figures_1 : cX2_figures.data.toList.drop 24 = dktX2_figures_1 := dk_seg dksX2_figures_0 24 rfl rfl
theorem dksX2_figures_2 : cX2_figures.data.toList.drop 48 = dktX2_figures_2 := dk_seg dksX2_figures_1 24 rfl rfl
theorem dksX2_figures_3 : cX2_figures.data.toList.drop 72 = dktX2_figures_3 := dk_seg dksX2_figures_2 24 rfl rfl
theorem dX2_figures_0 : decode cX2_figures 0 = .ok (.aload_n 0, 1) := dk_42 (dk_at dksX2_figures_0 0 rfl rfl)
theorem dX2_figures_1 : decode cX2_figures 1 = .ok (.invokevirtual 156, 3) := dk_182 0 156 (dk_at dksX2_figures_0 1 rfl rfl)
theorem dX2_figures_4 : decode cX2_figures 4 = .ok (.bipush 48, 2) := dk_16 48 (dk_at dksX2_figures_0 4 rfl rfl)
theorem dX2_figures_6 : decode cX2_figures 6 = .ok (.bipush 57, 2) := dk_16 57 (dk_at dksX2_figures_0 6 rfl rfl)
theorem dX2_figures_8 : decode cX2_figures 8 = .ok (.invokestatic 55, 3) := dk_184 0 55 (dk_at dksX2_figures_0 8 rfl rfl)
theorem dX2_figures_11 : decode cX2_figures 11 = .ok (.ifCond .ne 5, 3) := dk_154 0 5 (dk_at dksX2_figures_0 11 rfl rfl)
theorem dX2_figures_14 : decode cX2_figures 14 = .ok (.iconst 0, 1) := dk_3 (dk_at dksX2_figures_0 14 rfl rfl)
theorem dX2_figures_15 : decode cX2_figures 15 = .ok (.ireturn, 1) := dk_172 (dk_at dksX2_figures_0 15 rfl rfl)
theorem dX2_figures_16 : decode cX2_figures 16 = .ok (.aload_n 0, 1) := dk_42 (dk_at dksX2_figures_0 16 rfl rfl)
theorem dX2_figures_17 : decode cX2_figures 17 = .ok (.getfield 34, 3) := dk_180 0 34 (dk_at dksX2_figures_0 17 rfl rfl)
theorem dX2_figures_20 : decode cX2_figures 20 = .ok (.iload_n 1, 1) := dk_27 (dk_at dksX2_figures_0 20 rfl rfl)
theorem dX2_figures_21 : decode cX2_figures 21 = .ok (.iconst 0, 1) := dk_3 (dk_at dksX2_figures_0 21 rfl rfl)
theorem dX2_figures_22 : decode cX2_figures 22 = .ok (.iastore, 1) := dk_79 (dk_at dksX2_figures_0 22 rfl rfl)
theorem dX2_figures_23 : decode cX2_figures 23 = .ok (.iconst 0, 1) := dk_3 (dk_at dksX2_figures_0 23 rfl rfl)
theorem dX2_figures_24 : decode cX2_figures 24 = .ok (.istore_n 3, 1) := dk_62 (dk_at dksX2_figures_1 0 rfl rfl)
theorem dX2_figures_25 : decode cX2_figures 25 = .ok (.iload_n 3, 1) := dk_29 (dk_at dksX2_figures_1 1 rfl rfl)
theorem dX2_figures_26 : decode cX2_figures 26 = .ok (.iload_n 2, 1) := dk_28 (dk_at dksX2_figures_1 2 rfl rfl)
theorem dX2_figures_27 : decode cX2_figures 27 = .ok (.if_icmp .ge 56, 3) := dk_162 0 56 (dk_at dksX2_figures_1 3 rfl rfl)
theorem dX2_figures_30 : decode cX2_figures 30 = .ok (.aload_n 0, 1) := dk_42 (dk_at dksX2_figures_1 6 rfl rfl)
theorem dX2_figures_31 : decode cX2_figures 31 = .ok (.invokevirtual 156, 3) := dk_182 0 156 (dk_at dksX2_figures_1 7 rfl rfl)
theorem dX2_figures_34 : decode cX2_figures 34 = .ok (.bipush 48, 2) := dk_16 48 (dk_at dksX2_figures_1 10 rfl rfl)
theorem dX2_figures_36 : decode cX2_figures 36 = .ok (.bipush 57, 2) := dk_16 57 (dk_at dksX2_figures_1 12 rfl rfl)
theorem dX2_figures_38 : decode cX2_figures 38 = .ok (.invokestatic 55, 3) := dk_184 0 55 (dk_at dksX2_figures_1 14 rfl rfl)
theorem dX2_figures_41 : decode cX2_figures 41 = .ok (.ifCond .eq 42, 3) := dk_153 0 42 (dk_at dksX2_figures_1 17 rfl rfl)
theorem dX2_figures_44 : decode cX2_figures 44 = .ok (.aload_n 0, 1) := dk_42 (dk_at dksX2_figures_1 20 rfl rfl)
theorem dX2_figures_45 : decode cX2_figures 45 = .ok (.getfield 34, 3) := dk_180 0 34 (dk_at dksX2_figures_1 21 rfl rfl)
theorem dX2_figures_48 : decode cX2_figures 48 = .ok (.iload_n 1, 1) := dk_27 (dk_at dksX2_figures_2 0 rfl rfl)
theorem dX2_figures_49 : decode cX2_figures 49 = .ok (.bipush 10, 2) := dk_16 10 (dk_at dksX2_figures_2 1 rfl rfl)
theorem dX2_figures_51 : decode cX2_figures 51 = .ok (.aload_n 0, 1) := dk_42 (dk_at dksX2_figures_2 3 rfl rfl)
theorem dX2_figures_52 : decode cX2_figures 52 = .ok (.getfield 34, 3) := dk_180 0 34 (dk_at dksX2_figures_2 4 rfl rfl)
theorem dX2_figures_55 : decode cX2_figures 55 = .ok (.iload_n 1, 1) := dk_27 (dk_at dksX2_figures_2 7 rfl rfl)
theorem dX2_figures_56 : decode cX2_figures 56 = .ok (.iaload, 1) := dk_46 (dk_at dksX2_figures_2 8 rfl rfl)
theorem dX2_figures_57 : decode cX2_figures 57 = .ok (.imul, 1) := dk_104 (dk_at dksX2_figures_2 9 rfl rfl)
theorem dX2_figures_58 : decode cX2_figures 58 = .ok (.aload_n 0, 1) := dk_42 (dk_at dksX2_figures_2 10 rfl rfl)
theorem dX2_figures_59 : decode cX2_figures 59 = .ok (.invokevirtual 156, 3) := dk_182 0 156 (dk_at dksX2_figures_2 11 rfl rfl)
theorem dX2_figures_62 : decode cX2_figures 62 = .ok (.iadd, 1) := dk_96 (dk_at dksX2_figures_2 14 rfl rfl)
theorem dX2_figures_63 : decode cX2_figures 63 = .ok (.bipush 48, 2) := dk_16 48 (dk_at dksX2_figures_2 15 rfl rfl)
theorem dX2_figures_65 : decode cX2_figures 65 = .ok (.isub, 1) := dk_100 (dk_at dksX2_figures_2 17 rfl rfl)
theorem dX2_figures_66 : decode cX2_figures 66 = .ok (.iastore, 1) := dk_79 (dk_at dksX2_figures_2 18 rfl rfl)
theorem dX2_figures_67 : decode cX2_figures 67 = .ok (.aload_n 0, 1) := dk_42 (dk_at dksX2_figures_2 19 rfl rfl)
theorem dX2_figures_68 : decode cX2_figures 68 = .ok (.dup, 1) := dk_89 (dk_at dksX2_figures_2 20 rfl rfl)
theorem dX2_figures_69 : decode cX2_figures 69 = .ok (.getfield 153, 3) := dk_180 0 153 (dk_at dksX2_figures_2 21 rfl rfl)
theorem dX2_figures_72 : decode cX2_figures 72 = .ok (.iconst 1, 1) := dk_4 (dk_at dksX2_figures_3 0 rfl rfl)
theorem dX2_figures_73 : decode cX2_figures 73 = .ok (.iadd, 1) := dk_96 (dk_at dksX2_figures_3 1 rfl rfl)
theorem dX2_figures_74 : decode cX2_figures 74 = .ok (.putfield 153, 3) := dk_181 0 153 (dk_at dksX2_figures_3 2 rfl rfl)
theorem dX2_figures_77 : decode cX2_figures 77 = .ok (.iinc 3 1, 3) := dk_132 3 1 (dk_at dksX2_figures_3 5 rfl rfl)
theorem dX2_figures_80 : decode cX2_figures 80 = .ok (.goto (-55), 3) := dk_167 255 201 (dk_at dksX2_figures_3 8 rfl rfl)
theorem dX2_figures_83 : decode cX2_figures 83 = .ok (.iconst 1, 1) := dk_4 (dk_at dksX2_figures_3 11 rfl rfl)
theorem dX2_figures_84 : decode cX2_figures 84 = .ok (.ireturn, 1) := dk_172 (dk_at dksX2_figures_3 12 rfl rfl)
abbrev cX2_doorHere : ByteArray := prog_11_method_55_code
def yX2_doorHere : MethodName := ⟨RX2, "doorHere", "(I)Z"⟩
def dkwX2_doorHere_3 : List UInt8 := [167, 0, 4, 3, 172]
abbrev dktX2_doorHere_3 : List UInt8 := dkwX2_doorHere_3 ++ []
def dkwX2_doorHere_2 : List UInt8 := [153, 0, 26, 42, 16, 32, 182, 0, 167, 153, 0, 17, 42, 27, 7, 96, 182, 0, 176, 153, 0, 7, 4]
abbrev dktX2_doorHere_2 : List UInt8 := dkwX2_doorHere_2 ++ dktX2_doorHere_3
def dkwX2_doorHere_1 : List UInt8 := [4, 182, 0, 173, 153, 0, 46, 42, 16, 32, 182, 0, 167, 153, 0, 37, 42, 27, 6, 96, 4, 182, 0, 173]
abbrev dktX2_doorHere_1 : List UInt8 := dkwX2_doorHere_1 ++ dktX2_doorHere_2
def dkwX2_doorHere_0 : List UInt8 := [42, 27, 4, 96, 4, 182, 0, 173, 153, 0, 66, 42, 16, 32, 182, 0, 167, 153, 0, 57, 42, 27, 5, 96]
abbrev dktX2_doorHere_0 : List UInt8 := dkwX2_doorHere_0 ++ dktX2_doorHere_1
theorem dksX2_doorHere_0 : cX2_doorHere.data.toList.drop 0 = dktX2_doorHere_0 := by decide +kernel
theorem dksX2_doorHere_1 : cX2_doorHere.data.toList.drop 24 = dktX2_doorHere_1 := dk_seg dksX2_doorHere_0 24 rfl rfl
theorem dksX2_doorHere_2 : cX2_doorHere.data.toList.drop 48 = dktX2_doorHere_2 := dk_seg dksX2_doorHere_1 24 rfl rfl
theorem dksX2_doorHere_3 : cX2_doorHere.data.toList.drop 71 = dktX2_doorHere_3 := dk_seg dksX2_doorHere_2 23 rfl rfl
theorem dX2_doorHere_0 : decode cX2_doorHere 0 = .ok (.aload_n 0, 1) := dk_42 (dk_at dksX2_doorHere_0 0 rfl rfl)
theorem dX2_doorHere_1 : decode cX2_doorHere 1 = .ok (.iload_n 1, 1) := dk_27 (dk_at dksX2_doorHere_0 1 rfl rfl)
theorem dX2_doorHere_2 : decode cX2_doorHere 2 = .ok (.iconst 1, 1) := dk_4 (dk_at dksX2_doorHere_0 2 rfl rfl)
theorem dX2_doorHere_3 : decode cX2_doorHere 3 = .ok (.iadd, 1) := dk_96 (dk_at dksX2_doorHere_0 3 rfl rfl)
theorem dX2_doorHere_4 : decode cX2_doorHere 4 = .ok (.iconst 1, 1) := dk_4 (dk_at dksX2_doorHere_0 4 rfl rfl)
theorem dX2_doorHere_5 : decode cX2_doorHere 5 = .ok (.invokevirtual 173, 3) := dk_182 0 173 (dk_at dksX2_doorHere_0 5 rfl rfl)
theorem dX2_doorHere_8 : decode cX2_doorHere 8 = .ok (.ifCond .eq 66, 3) := dk_153 0 66 (dk_at dksX2_doorHere_0 8 rfl rfl)
theorem dX2_doorHere_11 : decode cX2_doorHere 11 = .ok (.aload_n 0, 1) := dk_42 (dk_at dksX2_doorHere_0 11 rfl rfl)
theorem dX2_doorHere_12 : decode cX2_doorHere 12 = .ok (.bipush 32, 2) := dk_16 32 (dk_at dksX2_doorHere_0 12 rfl rfl)
theorem dX2_doorHere_14 : decode cX2_doorHere 14 = .ok (.invokevirtual 167, 3) := dk_182 0 167 (dk_at dksX2_doorHere_0 14 rfl rfl)
theorem dX2_doorHere_17 : decode cX2_doorHere 17 = .ok (.ifCond .eq 57, 3) := dk_153 0 57 (dk_at dksX2_doorHere_0 17 rfl rfl)
theorem dX2_doorHere_20 : decode cX2_doorHere 20 = .ok (.aload_n 0, 1) := dk_42 (dk_at dksX2_doorHere_0 20 rfl rfl)
theorem dX2_doorHere_21 : decode cX2_doorHere 21 = .ok (.iload_n 1, 1) := dk_27 (dk_at dksX2_doorHere_0 21 rfl rfl)
theorem dX2_doorHere_22 : decode cX2_doorHere 22 = .ok (.iconst 2, 1) := dk_5 (dk_at dksX2_doorHere_0 22 rfl rfl)
theorem dX2_doorHere_23 : decode cX2_doorHere 23 = .ok (.iadd, 1) := dk_96 (dk_at dksX2_doorHere_0 23 rfl rfl)
theorem dX2_doorHere_24 : decode cX2_doorHere 24 = .ok (.iconst 1, 1) := dk_4 (dk_at dksX2_doorHere_1 0 rfl rfl)
theorem dX2_doorHere_25 : decode cX2_doorHere 25 = .ok (.invokevirtual 173, 3) := dk_182 0 173 (dk_at dksX2_doorHere_1 1 rfl rfl)
theorem dX2_doorHere_28 : decode cX2_doorHere 28 = .ok (.ifCond .eq 46, 3) := dk_153 0 46 (dk_at dksX2_doorHere_1 4 rfl rfl)
theorem dX2_doorHere_31 : decode cX2_doorHere 31 = .ok (.aload_n 0, 1) := dk_42 (dk_at dksX2_doorHere_1 7 rfl rfl)
theorem dX2_doorHere_32 : decode cX2_doorHere 32 = .ok (.bipush 32, 2) := dk_16 32 (dk_at dksX2_doorHere_1 8 rfl rfl)
theorem dX2_doorHere_34 : decode cX2_doorHere 34 = .ok (.invokevirtual 167, 3) := dk_182 0 167 (dk_at dksX2_doorHere_1 10 rfl rfl)
theorem dX2_doorHere_37 : decode cX2_doorHere 37 = .ok (.ifCond .eq 37, 3) := dk_153 0 37 (dk_at dksX2_doorHere_1 13 rfl rfl)
theorem dX2_doorHere_40 : decode cX2_doorHere 40 = .ok (.aload_n 0, 1) := dk_42 (dk_at dksX2_doorHere_1 16 rfl rfl)
theorem dX2_doorHere_41 : decode cX2_doorHere 41 = .ok (.iload_n 1, 1) := dk_27 (dk_at dksX2_doorHere_1 17 rfl rfl)
theorem dX2_doorHere_42 : decode cX2_doorHere 42 = .ok (.iconst 3, 1) := dk_6 (dk_at dksX2_doorHere_1 18 rfl rfl)
theorem dX2_doorHere_43 : decode cX2_doorHere 43 = .ok (.iadd, 1) := dk_96 (dk_at dksX2_doorHere_1 19 rfl rfl)
theorem dX2_doorHere_44 : decode cX2_doorHere 44 = .ok (.iconst 1, 1) := dk_4 (dk_at dksX2_doorHere_1 20 rfl rfl)
theorem dX2_doorHere_45 : decode cX2_doorHere 45 = .ok (.invokevirtual 173, 3) := dk_182 0 173 (dk_at dksX2_doorHere_1 21 rfl rfl)
theorem dX2_doorHere_48 : decode cX2_doorHere 48 = .ok (.ifCond .eq 26, 3) := dk_153 0 26 (dk_at dksX2_doorHere_2 0 rfl rfl)
theorem dX2_doorHere_51 : decode cX2_doorHere 51 = .ok (.aload_n 0, 1) := dk_42 (dk_at dksX2_doorHere_2 3 rfl rfl)
theorem dX2_doorHere_52 : decode cX2_doorHere 52 = .ok (.bipush 32, 2) := dk_16 32 (dk_at dksX2_doorHere_2 4 rfl rfl)
theorem dX2_doorHere_54 : decode cX2_doorHere 54 = .ok (.invokevirtual 167, 3) := dk_182 0 167 (dk_at dksX2_doorHere_2 6 rfl rfl)
theorem dX2_doorHere_57 : decode cX2_doorHere 57 = .ok (.ifCond .eq 17, 3) := dk_153 0 17 (dk_at dksX2_doorHere_2 9 rfl rfl)
theorem dX2_doorHere_60 : decode cX2_doorHere 60 = .ok (.aload_n 0, 1) := dk_42 (dk_at dksX2_doorHere_2 12 rfl rfl)
theorem dX2_doorHere_61 : decode cX2_doorHere 61 = .ok (.iload_n 1, 1) := dk_27 (dk_at dksX2_doorHere_2 13 rfl rfl)
theorem dX2_doorHere_62 : decode cX2_doorHere 62 = .ok (.iconst 4, 1) := dk_7 (dk_at dksX2_doorHere_2 14 rfl rfl)
theorem dX2_doorHere_63 : decode cX2_doorHere 63 = .ok (.iadd, 1) := dk_96 (dk_at dksX2_doorHere_2 15 rfl rfl)
theorem dX2_doorHere_64 : decode cX2_doorHere 64 = .ok (.invokevirtual 176, 3) := dk_182 0 176 (dk_at dksX2_doorHere_2 16 rfl rfl)
theorem dX2_doorHere_67 : decode cX2_doorHere 67 = .ok (.ifCond .eq 7, 3) := dk_153 0 7 (dk_at dksX2_doorHere_2 19 rfl rfl)
theorem dX2_doorHere_70 : decode cX2_doorHere 70 = .ok (.iconst 1, 1) := dk_4 (dk_at dksX2_doorHere_2 22 rfl rfl)
theorem dX2_doorHere_71 : decode cX2_doorHere 71 = .ok (.goto 4, 3) := dk_167 0 4 (dk_at dksX2_doorHere_3 0 rfl rfl)
theorem dX2_doorHere_74 : decode cX2_doorHere 74 = .ok (.iconst 0, 1) := dk_3 (dk_at dksX2_doorHere_3 3 rfl rfl)
theorem dX2_doorHere_75 : decode cX2_doorHere 75 = .ok (.ireturn, 1) := dk_172 (dk_at dksX2_doorHere_3 4 rfl rfl)
abbrev cX2_lockHere : ByteArray := prog_11_method_54_code
def yX2_lockHere : MethodName := ⟨RX2, "lockHere", "(I)Z"⟩
def dkwX2_lockHere_1 : List UInt8 := [153, 0, 7, 4, 167, 0, 4, 3, 172]
abbrev dktX2_lockHere_1 : List UInt8 := dkwX2_lockHere_1 ++ []
def dkwX2_lockHere_0 : List UInt8 := [42, 180, 0, 34, 27, 2, 79, 42, 16, 45, 182, 0, 167, 154, 0, 12, 42, 27, 4, 182, 0, 173]
abbrev dktX2_lockHere_0 : List UInt8 := dkwX2_lockHere_0 ++ dktX2_lockHere_1
theorem dksX2_lockHere_0 : cX2_lockHere.data.toList.drop 0 = dktX2_lockHere_0 := by decide +kernel
theorem dksX2_lockHere_1 : cX2_lockHere.data.toList.drop 22 = dktX2_lockHere_1 := dk_seg dksX2_lockHere_0 22 rfl rfl
theorem dX2_lockHere_0 : decode cX2_lockHere 0 = .ok (.aload_n 0, 1) := dk_42 (dk_at dksX2_lockHere_0 0 rfl rfl)
theorem dX2_lockHere_1 : decode cX2_lockHere 1 = .ok (.getfield 34, 3) := dk_180 0 34 (dk_at dksX2_lockHere_0 1 rfl rfl)
theorem dX2_lockHere_4 : decode cX2_lockHere 4 = .ok (.iload_n 1, 1) := dk_27 (dk_at dksX2_lockHere_0 4 rfl rfl)
theorem dX2_lockHere_5 : decode cX2_lockHere 5 = .ok (.iconst (-1), 1) := dk_2 (dk_at dksX2_lockHere_0 5 rfl rfl)
theorem dX2_lockHere_6 : decode cX2_lockHere 6 = .ok (.iastore, 1) := dk_79 (dk_at dksX2_lockHere_0 6 rfl rfl)
theorem dX2_lockHere_7 : decode cX2_lockHere 7 = .ok (.aload_n 0, 1) := dk_42 (dk_at dksX2_lockHere_0 7 rfl rfl)
theorem dX2_lockHere_8 : decode cX2_lockHere 8 = .ok (.bipush 45, 2) := dk_16 45 (dk_at dksX2_lockHere_0 8 rfl rfl)
theorem dX2_lockHere_10 : decode cX2_lockHere 10 = .ok (.invokevirtual 167, 3) := dk_182 0 167 (dk_at dksX2_lockHere_0 10 rfl rfl)
theorem dX2_lockHere_13 : decode cX2_lockHere 13 = .ok (.ifCond .ne 12, 3) := dk_154 0 12 (dk_at dksX2_lockHere_0 13 rfl rfl)
theorem dX2_lockHere_16 : decode cX2_lockHere 16 = .ok (.aload_n 0, 1) := dk_42 (dk_at dksX2_lockHere_0 16 rfl rfl)
theorem dX2_lockHere_17 : decode cX2_lockHere 17 = .ok (.iload_n 1, 1) := dk_27 (dk_at dksX2_lockHere_0 17 rfl rfl)
theorem dX2_lockHere_18 : decode cX2_lockHere 18 = .ok (.iconst 1, 1) := dk_4 (dk_at dksX2_lockHere_0 18 rfl rfl)
theorem dX2_lockHere_19 : decode cX2_lockHere 19 = .ok (.invokevirtual 173, 3) := dk_182 0 173 (dk_at dksX2_lockHere_0 19 rfl rfl)
theorem dX2_lockHere_22 : decode cX2_lockHere 22 = .ok (.ifCond .eq 7, 3) := dk_153 0 7 (dk_at dksX2_lockHere_1 0 rfl rfl)
theorem dX2_lockHere_25 : decode cX2_lockHere 25 = .ok (.iconst 1, 1) := dk_4 (dk_at dksX2_lockHere_1 3 rfl rfl)
theorem dX2_lockHere_26 : decode cX2_lockHere 26 = .ok (.goto 4, 3) := dk_167 0 4 (dk_at dksX2_lockHere_1 4 rfl rfl)
theorem dX2_lockHere_29 : decode cX2_lockHere 29 = .ok (.iconst 0, 1) := dk_3 (dk_at dksX2_lockHere_1 7 rfl rfl)
theorem dX2_lockHere_30 : decode cX2_lockHere 30 = .ok (.ireturn, 1) := dk_172 (dk_at dksX2_lockHere_1 8 rfl rfl)
abbrev cX2_carries : ByteArray := prog_11_method_58_code
def yX2_carries : MethodName := ⟨RX2, "carries", "(I)I"⟩
def dkwX2_carries_5 : List UInt8 := [180, 0, 34, 27, 6, 96, 46, 42, 180, 0, 34, 27, 7, 96, 46, 182, 0, 230, 172]
abbrev dktX2_carries_5 : List UInt8 := dkwX2_carries_5 ++ []
def dkwX2_carries_4 : List UInt8 := [180, 0, 34, 27, 5, 96, 46, 182, 0, 227, 172, 42, 28, 42, 180, 0, 34, 27, 5, 96, 46, 42]
abbrev dktX2_carries_4 : List UInt8 := dkwX2_carries_4 ++ dktX2_carries_5
def dkwX2_carries_3 : List UInt8 := [42, 28, 42, 180, 0, 34, 27, 5, 96, 46, 182, 0, 221, 172, 42, 28, 182, 0, 224, 172, 42, 28, 42]
abbrev dktX2_carries_3 : List UInt8 := dkwX2_carries_3 ++ dktX2_carries_4
def dkwX2_carries_2 : List UInt8 := [42, 28, 182, 0, 209, 172, 42, 28, 182, 0, 212, 172, 42, 28, 182, 0, 215, 172, 42, 28, 182, 0, 218, 172]
abbrev dktX2_carries_2 : List UInt8 := dkwX2_carries_2 ++ dktX2_carries_3
def dkwX2_carries_1 : List UInt8 := [170, 0, 0, 0, 99, 0, 0, 0, 0, 0, 0, 0, 6, 0, 0, 0, 41, 0, 0, 0, 47, 0, 0, 0, 53, 0, 0, 0, 59, 0, 0, 0, 65, 0, 0, 0, 79, 0, 0, 0, 85]
abbrev dktX2_carries_1 : List UInt8 := dkwX2_carries_1 ++ dktX2_carries_2
def dkwX2_carries_0 : List UInt8 := [42, 180, 0, 34, 27, 4, 96, 46, 61, 42, 180, 0, 34, 27, 46]
abbrev dktX2_carries_0 : List UInt8 := dkwX2_carries_0 ++ dktX2_carries_1
theorem dksX2_carries_0 : cX2_carries.data.toList.drop 0 = dktX2_carries_0 := by decide +kernel
theorem dksX2_carries_1 : cX2_carries.data.toList.drop 15 = dktX2_carries_1 := dk_seg dksX2_carries_0 15 rfl rfl
theorem dksX2_carries_2 : cX2_carries.data.toList.drop 56 = dktX2_carries_2 := dk_seg dksX2_carries_1 41 rfl rfl
theorem dksX2_carries_3 : cX2_carries.data.toList.drop 80 = dktX2_carries_3 := dk_seg dksX2_carries_2 24 rfl rfl
theorem dksX2_carries_4 : cX2_carries.data.toList.drop 103 = dktX2_carries_4 := dk_seg dksX2_carries_3 23 rfl rfl
theorem dksX2_carries_5 : cX2_carries.data.toList.drop 125 = dktX2_carries_5 := dk_seg dksX2_carries_4 22 rfl rfl
theorem dX2_carries_0 : decode cX2_carries 0 = .ok (.aload_n 0, 1) := dk_42 (dk_at dksX2_carries_0 0 rfl rfl)
theorem dX2_carries_1 : decode cX2_carries 1 = .ok (.getfield 34, 3) := dk_180 0 34 (dk_at dksX2_carries_0 1 rfl rfl)
theorem dX2_carries_4 : decode cX2_carries 4 = .ok (.iload_n 1, 1) := dk_27 (dk_at dksX2_carries_0 4 rfl rfl)
theorem dX2_carries_5 : decode cX2_carries 5 = .ok (.iconst 1, 1) := dk_4 (dk_at dksX2_carries_0 5 rfl rfl)
theorem dX2_carries_6 : decode cX2_carries 6 = .ok (.iadd, 1) := dk_96 (dk_at dksX2_carries_0 6 rfl rfl)
theorem dX2_carries_7 : decode cX2_carries 7 = .ok (.iaload, 1) := dk_46 (dk_at dksX2_carries_0 7 rfl rfl)
theorem dX2_carries_8 : decode cX2_carries 8 = .ok (.istore_n 2, 1) := dk_61 (dk_at dksX2_carries_0 8 rfl rfl)
theorem dX2_carries_9 : decode cX2_carries 9 = .ok (.aload_n 0, 1) := dk_42 (dk_at dksX2_carries_0 9 rfl rfl)
theorem dX2_carries_10 : decode cX2_carries 10 = .ok (.getfield 34, 3) := dk_180 0 34 (dk_at dksX2_carries_0 10 rfl rfl)
theorem dX2_carries_13 : decode cX2_carries 13 = .ok (.iload_n 1, 1) := dk_27 (dk_at dksX2_carries_0 13 rfl rfl)
theorem dX2_carries_14 : decode cX2_carries 14 = .ok (.iaload, 1) := dk_46 (dk_at dksX2_carries_0 14 rfl rfl)
theorem dX2_carries_15 : decode cX2_carries 15 = .ok (.tableswitch 99 0 6 #[41, 47, 53, 59, 65, 79, 85], 41) := by decide +kernel
theorem dX2_carries_56 : decode cX2_carries 56 = .ok (.aload_n 0, 1) := dk_42 (dk_at dksX2_carries_2 0 rfl rfl)
theorem dX2_carries_57 : decode cX2_carries 57 = .ok (.iload_n 2, 1) := dk_28 (dk_at dksX2_carries_2 1 rfl rfl)
theorem dX2_carries_58 : decode cX2_carries 58 = .ok (.invokevirtual 209, 3) := dk_182 0 209 (dk_at dksX2_carries_2 2 rfl rfl)
theorem dX2_carries_61 : decode cX2_carries 61 = .ok (.ireturn, 1) := dk_172 (dk_at dksX2_carries_2 5 rfl rfl)
theorem dX2_carries_62 : decode cX2_carries 62 = .ok (.aload_n 0, 1) := dk_42 (dk_at dksX2_carries_2 6 rfl rfl)
theorem dX2_carries_63 : decode cX2_carries 63 = .ok (.iload_n 2, 1) := dk_28 (dk_at dksX2_carries_2 7 rfl rfl)
theorem dX2_carries_64 : decode cX2_carries 64 = .ok (.invokevirtual 212, 3) := dk_182 0 212 (dk_at dksX2_carries_2 8 rfl rfl)
theorem dX2_carries_67 : decode cX2_carries 67 = .ok (.ireturn, 1) := dk_172 (dk_at dksX2_carries_2 11 rfl rfl)
theorem dX2_carries_68 : decode cX2_carries 68 = .ok (.aload_n 0, 1) := dk_42 (dk_at dksX2_carries_2 12 rfl rfl)
theorem dX2_carries_69 : decode cX2_carries 69 = .ok (.iload_n 2, 1) := dk_28 (dk_at dksX2_carries_2 13 rfl rfl)
theorem dX2_carries_70 : decode cX2_carries 70 = .ok (.invokevirtual 215, 3) := dk_182 0 215 (dk_at dksX2_carries_2 14 rfl rfl)
theorem dX2_carries_73 : decode cX2_carries 73 = .ok (.ireturn, 1) := dk_172 (dk_at dksX2_carries_2 17 rfl rfl)
theorem dX2_carries_74 : decode cX2_carries 74 = .ok (.aload_n 0, 1) := dk_42 (dk_at dksX2_carries_2 18 rfl rfl)
theorem dX2_carries_75 : decode cX2_carries 75 = .ok (.iload_n 2, 1) := dk_28 (dk_at dksX2_carries_2 19 rfl rfl)
theorem dX2_carries_76 : decode cX2_carries 76 = .ok (.invokevirtual 218, 3) := dk_182 0 218 (dk_at dksX2_carries_2 20 rfl rfl)
theorem dX2_carries_79 : decode cX2_carries 79 = .ok (.ireturn, 1) := dk_172 (dk_at dksX2_carries_2 23 rfl rfl)
theorem dX2_carries_80 : decode cX2_carries 80 = .ok (.aload_n 0, 1) := dk_42 (dk_at dksX2_carries_3 0 rfl rfl)
theorem dX2_carries_81 : decode cX2_carries 81 = .ok (.iload_n 2, 1) := dk_28 (dk_at dksX2_carries_3 1 rfl rfl)
theorem dX2_carries_82 : decode cX2_carries 82 = .ok (.aload_n 0, 1) := dk_42 (dk_at dksX2_carries_3 2 rfl rfl)
theorem dX2_carries_83 : decode cX2_carries 83 = .ok (.getfield 34, 3) := dk_180 0 34 (dk_at dksX2_carries_3 3 rfl rfl)
theorem dX2_carries_86 : decode cX2_carries 86 = .ok (.iload_n 1, 1) := dk_27 (dk_at dksX2_carries_3 6 rfl rfl)
theorem dX2_carries_87 : decode cX2_carries 87 = .ok (.iconst 2, 1) := dk_5 (dk_at dksX2_carries_3 7 rfl rfl)
theorem dX2_carries_88 : decode cX2_carries 88 = .ok (.iadd, 1) := dk_96 (dk_at dksX2_carries_3 8 rfl rfl)
theorem dX2_carries_89 : decode cX2_carries 89 = .ok (.iaload, 1) := dk_46 (dk_at dksX2_carries_3 9 rfl rfl)
theorem dX2_carries_90 : decode cX2_carries 90 = .ok (.invokevirtual 221, 3) := dk_182 0 221 (dk_at dksX2_carries_3 10 rfl rfl)
theorem dX2_carries_93 : decode cX2_carries 93 = .ok (.ireturn, 1) := dk_172 (dk_at dksX2_carries_3 13 rfl rfl)
theorem dX2_carries_94 : decode cX2_carries 94 = .ok (.aload_n 0, 1) := dk_42 (dk_at dksX2_carries_3 14 rfl rfl)
theorem dX2_carries_95 : decode cX2_carries 95 = .ok (.iload_n 2, 1) := dk_28 (dk_at dksX2_carries_3 15 rfl rfl)
theorem dX2_carries_96 : decode cX2_carries 96 = .ok (.invokevirtual 224, 3) := dk_182 0 224 (dk_at dksX2_carries_3 16 rfl rfl)
theorem dX2_carries_99 : decode cX2_carries 99 = .ok (.ireturn, 1) := dk_172 (dk_at dksX2_carries_3 19 rfl rfl)
theorem dX2_carries_100 : decode cX2_carries 100 = .ok (.aload_n 0, 1) := dk_42 (dk_at dksX2_carries_3 20 rfl rfl)
theorem dX2_carries_101 : decode cX2_carries 101 = .ok (.iload_n 2, 1) := dk_28 (dk_at dksX2_carries_3 21 rfl rfl)
theorem dX2_carries_102 : decode cX2_carries 102 = .ok (.aload_n 0, 1) := dk_42 (dk_at dksX2_carries_3 22 rfl rfl)
theorem dX2_carries_103 : decode cX2_carries 103 = .ok (.getfield 34, 3) := dk_180 0 34 (dk_at dksX2_carries_4 0 rfl rfl)
theorem dX2_carries_106 : decode cX2_carries 106 = .ok (.iload_n 1, 1) := dk_27 (dk_at dksX2_carries_4 3 rfl rfl)
theorem dX2_carries_107 : decode cX2_carries 107 = .ok (.iconst 2, 1) := dk_5 (dk_at dksX2_carries_4 4 rfl rfl)
theorem dX2_carries_108 : decode cX2_carries 108 = .ok (.iadd, 1) := dk_96 (dk_at dksX2_carries_4 5 rfl rfl)
theorem dX2_carries_109 : decode cX2_carries 109 = .ok (.iaload, 1) := dk_46 (dk_at dksX2_carries_4 6 rfl rfl)
theorem dX2_carries_110 : decode cX2_carries 110 = .ok (.invokevirtual 227, 3) := dk_182 0 227 (dk_at dksX2_carries_4 7 rfl rfl)
theorem dX2_carries_113 : decode cX2_carries 113 = .ok (.ireturn, 1) := dk_172 (dk_at dksX2_carries_4 10 rfl rfl)
theorem dX2_carries_114 : decode cX2_carries 114 = .ok (.aload_n 0, 1) := dk_42 (dk_at dksX2_carries_4 11 rfl rfl)
theorem dX2_carries_115 : decode cX2_carries 115 = .ok (.iload_n 2, 1) := dk_28 (dk_at dksX2_carries_4 12 rfl rfl)
theorem dX2_carries_116 : decode cX2_carries 116 = .ok (.aload_n 0, 1) := dk_42 (dk_at dksX2_carries_4 13 rfl rfl)
theorem dX2_carries_117 : decode cX2_carries 117 = .ok (.getfield 34, 3) := dk_180 0 34 (dk_at dksX2_carries_4 14 rfl rfl)
theorem dX2_carries_120 : decode cX2_carries 120 = .ok (.iload_n 1, 1) := dk_27 (dk_at dksX2_carries_4 17 rfl rfl)
theorem dX2_carries_121 : decode cX2_carries 121 = .ok (.iconst 2, 1) := dk_5 (dk_at dksX2_carries_4 18 rfl rfl)
theorem dX2_carries_122 : decode cX2_carries 122 = .ok (.iadd, 1) := dk_96 (dk_at dksX2_carries_4 19 rfl rfl)
theorem dX2_carries_123 : decode cX2_carries 123 = .ok (.iaload, 1) := dk_46 (dk_at dksX2_carries_4 20 rfl rfl)
theorem dX2_carries_124 : decode cX2_carries 124 = .ok (.aload_n 0, 1) := dk_42 (dk_at dksX2_carries_4 21 rfl rfl)
theorem dX2_carries_125 : decode cX2_carries 125 = .ok (.getfield 34, 3) := dk_180 0 34 (dk_at dksX2_carries_5 0 rfl rfl)
theorem dX2_carries_128 : decode cX2_carries 128 = .ok (.iload_n 1, 1) := dk_27 (dk_at dksX2_carries_5 3 rfl rfl)
theorem dX2_carries_129 : decode cX2_carries 129 = .ok (.iconst 3, 1) := dk_6 (dk_at dksX2_carries_5 4 rfl rfl)
theorem dX2_carries_130 : decode cX2_carries 130 = .ok (.iadd, 1) := dk_96 (dk_at dksX2_carries_5 5 rfl rfl)
theorem dX2_carries_131 : decode cX2_carries 131 = .ok (.iaload, 1) := dk_46 (dk_at dksX2_carries_5 6 rfl rfl)
theorem dX2_carries_132 : decode cX2_carries 132 = .ok (.aload_n 0, 1) := dk_42 (dk_at dksX2_carries_5 7 rfl rfl)
theorem dX2_carries_133 : decode cX2_carries 133 = .ok (.getfield 34, 3) := dk_180 0 34 (dk_at dksX2_carries_5 8 rfl rfl)
theorem dX2_carries_136 : decode cX2_carries 136 = .ok (.iload_n 1, 1) := dk_27 (dk_at dksX2_carries_5 11 rfl rfl)
theorem dX2_carries_137 : decode cX2_carries 137 = .ok (.iconst 4, 1) := dk_7 (dk_at dksX2_carries_5 12 rfl rfl)
theorem dX2_carries_138 : decode cX2_carries 138 = .ok (.iadd, 1) := dk_96 (dk_at dksX2_carries_5 13 rfl rfl)
theorem dX2_carries_139 : decode cX2_carries 139 = .ok (.iaload, 1) := dk_46 (dk_at dksX2_carries_5 14 rfl rfl)
theorem dX2_carries_140 : decode cX2_carries 140 = .ok (.invokevirtual 230, 3) := dk_182 0 230 (dk_at dksX2_carries_5 15 rfl rfl)
theorem dX2_carries_143 : decode cX2_carries 143 = .ok (.ireturn, 1) := dk_172 (dk_at dksX2_carries_5 18 rfl rfl)
abbrev cX2_tell : ByteArray := prog_11_method_62_code
def yX2_tell : MethodName := ⟨RX2, "tell", "(I)I"⟩
def dkwX2_tell_4 : List UInt8 := [160, 0, 9, 42, 16, 64, 182, 0, 243, 42, 180, 0, 240, 172]
abbrev dktX2_tell_4 : List UInt8 := dkwX2_tell_4 ++ []
def dkwX2_tell_3 : List UInt8 := [182, 0, 243, 132, 3, 1, 167, 255, 226, 132, 2, 1, 167, 255, 213, 42, 180, 0, 7, 5, 46, 27]
abbrev dktX2_tell_3 : List UInt8 := dkwX2_tell_3 ++ dktX2_tell_4
def dkwX2_tell_2 : List UInt8 := [42, 180, 0, 7, 16, 10, 7, 27, 104, 96, 4, 96, 28, 96, 46, 162, 0, 17, 42, 16, 97, 28, 96]
abbrev dktX2_tell_2 : List UInt8 := dkwX2_tell_2 ++ dktX2_tell_3
def dkwX2_tell_1 : List UInt8 := [16, 42, 182, 0, 243, 42, 42, 27, 182, 0, 86, 182, 0, 246, 3, 61, 28, 6, 162, 0, 44, 3, 62, 29]
abbrev dktX2_tell_1 : List UInt8 := dkwX2_tell_1 ++ dktX2_tell_2
def dkwX2_tell_0 : List UInt8 := [42, 27, 182, 0, 76, 154, 0, 7, 17, 252, 13, 172, 42, 3, 181, 0, 240, 42, 27, 182, 0, 246, 42]
abbrev dktX2_tell_0 : List UInt8 := dkwX2_tell_0 ++ dktX2_tell_1
theorem dksX2_tell_0 : cX2_tell.data.toList.drop 0 = dktX2_tell_0 := by decide +kernel
theorem dksX2_tell_1 : cX2_tell.data.toList.drop 23 = dktX2_tell_1 := dk_seg dksX2_tell_0 23 rfl rfl
theorem dksX2_tell_2 : cX2_tell.data.toList.drop 47 = dktX2_tell_2 := dk_seg dksX2_tell_1 24 rfl rfl
theorem dksX2_tell_3 : cX2_tell.data.toList.drop 70 = dktX2_tell_3 := dk_seg dksX2_tell_2 23 rfl rfl
theorem dksX2_tell_4 : cX2_tell.data.toList.drop 92 = dktX2_tell_4 := dk_seg dksX2_tell_3 22 rfl rfl
theorem dX2_tell_0 : decode cX2_tell 0 = .ok (.aload_n 0, 1) := dk_42 (dk_at dksX2_tell_0 0 rfl rfl)
theorem dX2_tell_1 : decode cX2_tell 1 = .ok (.iload_n 1, 1) := dk_27 (dk_at dksX2_tell_0 1 rfl rfl)
theorem dX2_tell_2 : decode cX2_tell 2 = .ok (.invokevirtual 76, 3) := dk_182 0 76 (dk_at dksX2_tell_0 2 rfl rfl)
theorem dX2_tell_5 : decode cX2_tell 5 = .ok (.ifCond .ne 7, 3) := dk_154 0 7 (dk_at dksX2_tell_0 5 rfl rfl)
theorem dX2_tell_8 : decode cX2_tell 8 = .ok (.sipush (-1011), 3) := dk_17 252 13 (dk_at dksX2_tell_0 8 rfl rfl)
theorem dX2_tell_11 : decode cX2_tell 11 = .ok (.ireturn, 1) := dk_172 (dk_at dksX2_tell_0 11 rfl rfl)
theorem dX2_tell_12 : decode cX2_tell 12 = .ok (.aload_n 0, 1) := dk_42 (dk_at dksX2_tell_0 12 rfl rfl)
theorem dX2_tell_13 : decode cX2_tell 13 = .ok (.iconst 0, 1) := dk_3 (dk_at dksX2_tell_0 13 rfl rfl)
theorem dX2_tell_14 : decode cX2_tell 14 = .ok (.putfield 240, 3) := dk_181 0 240 (dk_at dksX2_tell_0 14 rfl rfl)
theorem dX2_tell_17 : decode cX2_tell 17 = .ok (.aload_n 0, 1) := dk_42 (dk_at dksX2_tell_0 17 rfl rfl)
theorem dX2_tell_18 : decode cX2_tell 18 = .ok (.iload_n 1, 1) := dk_27 (dk_at dksX2_tell_0 18 rfl rfl)
theorem dX2_tell_19 : decode cX2_tell 19 = .ok (.invokevirtual 246, 3) := dk_182 0 246 (dk_at dksX2_tell_0 19 rfl rfl)
theorem dX2_tell_22 : decode cX2_tell 22 = .ok (.aload_n 0, 1) := dk_42 (dk_at dksX2_tell_0 22 rfl rfl)
theorem dX2_tell_23 : decode cX2_tell 23 = .ok (.bipush 42, 2) := dk_16 42 (dk_at dksX2_tell_1 0 rfl rfl)
theorem dX2_tell_25 : decode cX2_tell 25 = .ok (.invokevirtual 243, 3) := dk_182 0 243 (dk_at dksX2_tell_1 2 rfl rfl)
theorem dX2_tell_28 : decode cX2_tell 28 = .ok (.aload_n 0, 1) := dk_42 (dk_at dksX2_tell_1 5 rfl rfl)
theorem dX2_tell_29 : decode cX2_tell 29 = .ok (.aload_n 0, 1) := dk_42 (dk_at dksX2_tell_1 6 rfl rfl)
theorem dX2_tell_30 : decode cX2_tell 30 = .ok (.iload_n 1, 1) := dk_27 (dk_at dksX2_tell_1 7 rfl rfl)
theorem dX2_tell_31 : decode cX2_tell 31 = .ok (.invokevirtual 86, 3) := dk_182 0 86 (dk_at dksX2_tell_1 8 rfl rfl)
theorem dX2_tell_34 : decode cX2_tell 34 = .ok (.invokevirtual 246, 3) := dk_182 0 246 (dk_at dksX2_tell_1 11 rfl rfl)
theorem dX2_tell_37 : decode cX2_tell 37 = .ok (.iconst 0, 1) := dk_3 (dk_at dksX2_tell_1 14 rfl rfl)
theorem dX2_tell_38 : decode cX2_tell 38 = .ok (.istore_n 2, 1) := dk_61 (dk_at dksX2_tell_1 15 rfl rfl)
theorem dX2_tell_39 : decode cX2_tell 39 = .ok (.iload_n 2, 1) := dk_28 (dk_at dksX2_tell_1 16 rfl rfl)
theorem dX2_tell_40 : decode cX2_tell 40 = .ok (.iconst 3, 1) := dk_6 (dk_at dksX2_tell_1 17 rfl rfl)
theorem dX2_tell_41 : decode cX2_tell 41 = .ok (.if_icmp .ge 44, 3) := dk_162 0 44 (dk_at dksX2_tell_1 18 rfl rfl)
theorem dX2_tell_44 : decode cX2_tell 44 = .ok (.iconst 0, 1) := dk_3 (dk_at dksX2_tell_1 21 rfl rfl)
theorem dX2_tell_45 : decode cX2_tell 45 = .ok (.istore_n 3, 1) := dk_62 (dk_at dksX2_tell_1 22 rfl rfl)
theorem dX2_tell_46 : decode cX2_tell 46 = .ok (.iload_n 3, 1) := dk_29 (dk_at dksX2_tell_1 23 rfl rfl)
theorem dX2_tell_47 : decode cX2_tell 47 = .ok (.aload_n 0, 1) := dk_42 (dk_at dksX2_tell_2 0 rfl rfl)
theorem dX2_tell_48 : decode cX2_tell 48 = .ok (.getfield 7, 3) := dk_180 0 7 (dk_at dksX2_tell_2 1 rfl rfl)
theorem dX2_tell_51 : decode cX2_tell 51 = .ok (.bipush 10, 2) := dk_16 10 (dk_at dksX2_tell_2 4 rfl rfl)
theorem dX2_tell_53 : decode cX2_tell 53 = .ok (.iconst 4, 1) := dk_7 (dk_at dksX2_tell_2 6 rfl rfl)
theorem dX2_tell_54 : decode cX2_tell 54 = .ok (.iload_n 1, 1) := dk_27 (dk_at dksX2_tell_2 7 rfl rfl)
theorem dX2_tell_55 : decode cX2_tell 55 = .ok (.imul, 1) := dk_104 (dk_at dksX2_tell_2 8 rfl rfl)
theorem dX2_tell_56 : decode cX2_tell 56 = .ok (.iadd, 1) := dk_96 (dk_at dksX2_tell_2 9 rfl rfl)
theorem dX2_tell_57 : decode cX2_tell 57 = .ok (.iconst 1, 1) := dk_4 (dk_at dksX2_tell_2 10 rfl rfl)
theorem dX2_tell_58 : decode cX2_tell 58 = .ok (.iadd, 1) := dk_96 (dk_at dksX2_tell_2 11 rfl rfl)
theorem dX2_tell_59 : decode cX2_tell 59 = .ok (.iload_n 2, 1) := dk_28 (dk_at dksX2_tell_2 12 rfl rfl)
theorem dX2_tell_60 : decode cX2_tell 60 = .ok (.iadd, 1) := dk_96 (dk_at dksX2_tell_2 13 rfl rfl)
theorem dX2_tell_61 : decode cX2_tell 61 = .ok (.iaload, 1) := dk_46 (dk_at dksX2_tell_2 14 rfl rfl)
theorem dX2_tell_62 : decode cX2_tell 62 = .ok (.if_icmp .ge 17, 3) := dk_162 0 17 (dk_at dksX2_tell_2 15 rfl rfl)
theorem dX2_tell_65 : decode cX2_tell 65 = .ok (.aload_n 0, 1) := dk_42 (dk_at dksX2_tell_2 18 rfl rfl)
theorem dX2_tell_66 : decode cX2_tell 66 = .ok (.bipush 97, 2) := dk_16 97 (dk_at dksX2_tell_2 19 rfl rfl)
theorem dX2_tell_68 : decode cX2_tell 68 = .ok (.iload_n 2, 1) := dk_28 (dk_at dksX2_tell_2 21 rfl rfl)
theorem dX2_tell_69 : decode cX2_tell 69 = .ok (.iadd, 1) := dk_96 (dk_at dksX2_tell_2 22 rfl rfl)
theorem dX2_tell_70 : decode cX2_tell 70 = .ok (.invokevirtual 243, 3) := dk_182 0 243 (dk_at dksX2_tell_3 0 rfl rfl)
theorem dX2_tell_73 : decode cX2_tell 73 = .ok (.iinc 3 1, 3) := dk_132 3 1 (dk_at dksX2_tell_3 3 rfl rfl)
theorem dX2_tell_76 : decode cX2_tell 76 = .ok (.goto (-30), 3) := dk_167 255 226 (dk_at dksX2_tell_3 6 rfl rfl)
theorem dX2_tell_79 : decode cX2_tell 79 = .ok (.iinc 2 1, 3) := dk_132 2 1 (dk_at dksX2_tell_3 9 rfl rfl)
theorem dX2_tell_82 : decode cX2_tell 82 = .ok (.goto (-43), 3) := dk_167 255 213 (dk_at dksX2_tell_3 12 rfl rfl)
theorem dX2_tell_85 : decode cX2_tell 85 = .ok (.aload_n 0, 1) := dk_42 (dk_at dksX2_tell_3 15 rfl rfl)
theorem dX2_tell_86 : decode cX2_tell 86 = .ok (.getfield 7, 3) := dk_180 0 7 (dk_at dksX2_tell_3 16 rfl rfl)
theorem dX2_tell_89 : decode cX2_tell 89 = .ok (.iconst 2, 1) := dk_5 (dk_at dksX2_tell_3 19 rfl rfl)
theorem dX2_tell_90 : decode cX2_tell 90 = .ok (.iaload, 1) := dk_46 (dk_at dksX2_tell_3 20 rfl rfl)
theorem dX2_tell_91 : decode cX2_tell 91 = .ok (.iload_n 1, 1) := dk_27 (dk_at dksX2_tell_3 21 rfl rfl)
theorem dX2_tell_92 : decode cX2_tell 92 = .ok (.if_icmp .ne 9, 3) := dk_160 0 9 (dk_at dksX2_tell_4 0 rfl rfl)
theorem dX2_tell_95 : decode cX2_tell 95 = .ok (.aload_n 0, 1) := dk_42 (dk_at dksX2_tell_4 3 rfl rfl)
theorem dX2_tell_96 : decode cX2_tell 96 = .ok (.bipush 64, 2) := dk_16 64 (dk_at dksX2_tell_4 4 rfl rfl)
theorem dX2_tell_98 : decode cX2_tell 98 = .ok (.invokevirtual 243, 3) := dk_182 0 243 (dk_at dksX2_tell_4 6 rfl rfl)
theorem dX2_tell_101 : decode cX2_tell 101 = .ok (.aload_n 0, 1) := dk_42 (dk_at dksX2_tell_4 9 rfl rfl)
theorem dX2_tell_102 : decode cX2_tell 102 = .ok (.getfield 240, 3) := dk_180 0 240 (dk_at dksX2_tell_4 10 rfl rfl)
theorem dX2_tell_105 : decode cX2_tell 105 = .ok (.ireturn, 1) := dk_172 (dk_at dksX2_tell_4 13 rfl rfl)
abbrev cX2_writesNumber : ByteArray := prog_11_method_61_code
def yX2_writesNumber : MethodName := ⟨RX2, "writesNumber", "(I)V"⟩
def dkwX2_writesNumber_1 : List UInt8 := [96, 182, 0, 243, 177]
abbrev dktX2_writesNumber_1 : List UInt8 := dkwX2_writesNumber_1 ++ []
def dkwX2_writesNumber_0 : List UInt8 := [27, 16, 9, 164, 0, 14, 42, 16, 48, 27, 16, 10, 108, 96, 182, 0, 243, 42, 16, 48, 27, 16, 10, 112]
abbrev dktX2_writesNumber_0 : List UInt8 := dkwX2_writesNumber_0 ++ dktX2_writesNumber_1
theorem dksX2_writesNumber_0 : cX2_writesNumber.data.toList.drop 0 = dktX2_writesNumber_0 := by decide +kernel
theorem dksX2_writesNumber_1 : cX2_writesNumber.data.toList.drop 24 = dktX2_writesNumber_1 := dk_seg dksX2_writesNumber_0 24 rfl rfl
theorem dX2_writesNumber_0 : decode cX2_writesNumber 0 = .ok (.iload_n 1, 1) := dk_27 (dk_at dksX2_writesNumber_0 0 rfl rfl)
theorem dX2_writesNumber_1 : decode cX2_writesNumber 1 = .ok (.bipush 9, 2) := dk_16 9 (dk_at dksX2_writesNumber_0 1 rfl rfl)
theorem dX2_writesNumber_3 : decode cX2_writesNumber 3 = .ok (.if_icmp .le 14, 3) := dk_164 0 14 (dk_at dksX2_writesNumber_0 3 rfl rfl)
theorem dX2_writesNumber_6 : decode cX2_writesNumber 6 = .ok (.aload_n 0, 1) := dk_42 (dk_at dksX2_writesNumber_0 6 rfl rfl)
theorem dX2_writesNumber_7 : decode cX2_writesNumber 7 = .ok (.bipush 48, 2) := dk_16 48 (dk_at dksX2_writesNumber_0 7 rfl rfl)
theorem dX2_writesNumber_9 : decode cX2_writesNumber 9 = .ok (.iload_n 1, 1) := dk_27 (dk_at dksX2_writesNumber_0 9 rfl rfl)
theorem dX2_writesNumber_10 : decode cX2_writesNumber 10 = .ok (.bipush 10, 2) := dk_16 10 (dk_at dksX2_writesNumber_0 10 rfl rfl)
theorem dX2_writesNumber_12 : decode cX2_writesNumber 12 = .ok (.idiv, 1) := dk_108 (dk_at dksX2_writesNumber_0 12 rfl rfl)
theorem dX2_writesNumber_13 : decode cX2_writesNumber 13 = .ok (.iadd, 1) := dk_96 (dk_at dksX2_writesNumber_0 13 rfl rfl)
theorem dX2_writesNumber_14 : decode cX2_writesNumber 14 = .ok (.invokevirtual 243, 3) := dk_182 0 243 (dk_at dksX2_writesNumber_0 14 rfl rfl)
theorem dX2_writesNumber_17 : decode cX2_writesNumber 17 = .ok (.aload_n 0, 1) := dk_42 (dk_at dksX2_writesNumber_0 17 rfl rfl)
theorem dX2_writesNumber_18 : decode cX2_writesNumber 18 = .ok (.bipush 48, 2) := dk_16 48 (dk_at dksX2_writesNumber_0 18 rfl rfl)
theorem dX2_writesNumber_20 : decode cX2_writesNumber 20 = .ok (.iload_n 1, 1) := dk_27 (dk_at dksX2_writesNumber_0 20 rfl rfl)
theorem dX2_writesNumber_21 : decode cX2_writesNumber 21 = .ok (.bipush 10, 2) := dk_16 10 (dk_at dksX2_writesNumber_0 21 rfl rfl)
theorem dX2_writesNumber_23 : decode cX2_writesNumber 23 = .ok (.irem, 1) := dk_112 (dk_at dksX2_writesNumber_0 23 rfl rfl)
theorem dX2_writesNumber_24 : decode cX2_writesNumber 24 = .ok (.iadd, 1) := dk_96 (dk_at dksX2_writesNumber_1 0 rfl rfl)
theorem dX2_writesNumber_25 : decode cX2_writesNumber 25 = .ok (.invokevirtual 243, 3) := dk_182 0 243 (dk_at dksX2_writesNumber_1 1 rfl rfl)
theorem dX2_writesNumber_28 : decode cX2_writesNumber 28 = .ok (.return_, 1) := dk_177 (dk_at dksX2_writesNumber_1 4 rfl rfl)
abbrev cX2_writes : ByteArray := prog_11_method_60_code
def yX2_writes : MethodName := ⟨RX2, "writes", "(I)V"⟩
def dkwX2_writes_0 : List UInt8 := [42, 180, 0, 25, 42, 180, 0, 240, 27, 79, 42, 89, 180, 0, 240, 4, 96, 181, 0, 240, 177]
abbrev dktX2_writes_0 : List UInt8 := dkwX2_writes_0 ++ []
theorem dksX2_writes_0 : cX2_writes.data.toList.drop 0 = dktX2_writes_0 := by decide +kernel
theorem dX2_writes_0 : decode cX2_writes 0 = .ok (.aload_n 0, 1) := dk_42 (dk_at dksX2_writes_0 0 rfl rfl)
theorem dX2_writes_1 : decode cX2_writes 1 = .ok (.getfield 25, 3) := dk_180 0 25 (dk_at dksX2_writes_0 1 rfl rfl)
theorem dX2_writes_4 : decode cX2_writes 4 = .ok (.aload_n 0, 1) := dk_42 (dk_at dksX2_writes_0 4 rfl rfl)
theorem dX2_writes_5 : decode cX2_writes 5 = .ok (.getfield 240, 3) := dk_180 0 240 (dk_at dksX2_writes_0 5 rfl rfl)
theorem dX2_writes_8 : decode cX2_writes 8 = .ok (.iload_n 1, 1) := dk_27 (dk_at dksX2_writes_0 8 rfl rfl)
theorem dX2_writes_9 : decode cX2_writes 9 = .ok (.iastore, 1) := dk_79 (dk_at dksX2_writes_0 9 rfl rfl)
theorem dX2_writes_10 : decode cX2_writes 10 = .ok (.aload_n 0, 1) := dk_42 (dk_at dksX2_writes_0 10 rfl rfl)
theorem dX2_writes_11 : decode cX2_writes 11 = .ok (.dup, 1) := dk_89 (dk_at dksX2_writes_0 11 rfl rfl)
theorem dX2_writes_12 : decode cX2_writes 12 = .ok (.getfield 240, 3) := dk_180 0 240 (dk_at dksX2_writes_0 12 rfl rfl)
theorem dX2_writes_15 : decode cX2_writes 15 = .ok (.iconst 1, 1) := dk_4 (dk_at dksX2_writes_0 15 rfl rfl)
theorem dX2_writes_16 : decode cX2_writes 16 = .ok (.iadd, 1) := dk_96 (dk_at dksX2_writes_0 16 rfl rfl)
theorem dX2_writes_17 : decode cX2_writes 17 = .ok (.putfield 240, 3) := dk_181 0 240 (dk_at dksX2_writes_0 17 rfl rfl)
theorem dX2_writes_20 : decode cX2_writes 20 = .ok (.return_, 1) := dk_177 (dk_at dksX2_writes_0 20 rfl rfl)
abbrev cX2_tellDoor : ByteArray := prog_11_method_63_code
def yX2_tellDoor : MethodName := ⟨RX2, "tellDoor", "(I)I"⟩
def dkwX2_tellDoor_5 : List UInt8 := [42, 180, 0, 240, 172]
abbrev dktX2_tellDoor_5 : List UInt8 := dkwX2_tellDoor_5 ++ []
def dkwX2_tellDoor_4 : List UInt8 := [42, 180, 0, 240, 172, 42, 16, 33, 182, 0, 243, 42, 16, 97, 42, 27, 6, 182, 0, 67, 96, 182, 0, 243]
abbrev dktX2_tellDoor_4 : List UInt8 := dkwX2_tellDoor_4 ++ dktX2_tellDoor_5
def dkwX2_tellDoor_3 : List UInt8 := [16, 101, 182, 0, 243, 42, 42, 27, 4, 182, 0, 67, 182, 0, 246, 42, 27, 7, 182, 0, 67, 154, 0, 8]
abbrev dktX2_tellDoor_3 : List UInt8 := dkwX2_tellDoor_3 ++ dktX2_tellDoor_4
def dkwX2_tellDoor_2 : List UInt8 := [154, 0, 8, 16, 45, 167, 0, 20, 42, 27, 5, 182, 0, 67, 4, 160, 0, 8, 16, 111, 167, 0, 5]
abbrev dktX2_tellDoor_2 : List UInt8 := dkwX2_tellDoor_2 ++ dktX2_tellDoor_3
def dkwX2_tellDoor_1 : List UInt8 := [16, 58, 182, 0, 243, 42, 42, 27, 3, 182, 0, 67, 182, 0, 246, 42, 42, 27, 5, 182, 0, 67]
abbrev dktX2_tellDoor_1 : List UInt8 := dkwX2_tellDoor_1 ++ dktX2_tellDoor_2
def dkwX2_tellDoor_0 : List UInt8 := [42, 27, 182, 0, 94, 154, 0, 7, 17, 252, 13, 172, 42, 3, 181, 0, 240, 42, 27, 182, 0, 246, 42]
abbrev dktX2_tellDoor_0 : List UInt8 := dkwX2_tellDoor_0 ++ dktX2_tellDoor_1
theorem dksX2_tellDoor_0 : cX2_tellDoor.data.toList.drop 0 = dktX2_tellDoor_0 := by decide +kernel
theorem dksX2_tellDoor_1 : cX2_tellDoor.data.toList.drop 23 = dktX2_tellDoor_1 := dk_seg dksX2_tellDoor_0 23 rfl rfl
theorem dksX2_tellDoor_2 : cX2_tellDoor.data.toList.drop 45 = dktX2_tellDoor_2 := dk_seg dksX2_tellDoor_1 22 rfl rfl
theorem dksX2_tellDoor_3 : cX2_tellDoor.data.toList.drop 68 = dktX2_tellDoor_3 := dk_seg dksX2_tellDoor_2 23 rfl rfl
theorem dksX2_tellDoor_4 : cX2_tellDoor.data.toList.drop 92 = dktX2_tellDoor_4 := dk_seg dksX2_tellDoor_3 24 rfl rfl
theorem dksX2_tellDoor_5 : cX2_tellDoor.data.toList.drop 116 = dktX2_tellDoor_5 := dk_seg dksX2_tellDoor_4 24 rfl rfl
theorem dX2_tellDoor_0 : decode cX2_tellDoor 0 = .ok (.aload_n 0, 1) := dk_42 (dk_at dksX2_tellDoor_0 0 rfl rfl)
theorem dX2_tellDoor_1 : decode cX2_tellDoor 1 = .ok (.iload_n 1, 1) := dk_27 (dk_at dksX2_tellDoor_0 1 rfl rfl)
theorem dX2_tellDoor_2 : decode cX2_tellDoor 2 = .ok (.invokevirtual 94, 3) := dk_182 0 94 (dk_at dksX2_tellDoor_0 2 rfl rfl)
theorem dX2_tellDoor_5 : decode cX2_tellDoor 5 = .ok (.ifCond .ne 7, 3) := dk_154 0 7 (dk_at dksX2_tellDoor_0 5 rfl rfl)
theorem dX2_tellDoor_8 : decode cX2_tellDoor 8 = .ok (.sipush (-1011), 3) := dk_17 252 13 (dk_at dksX2_tellDoor_0 8 rfl rfl)
theorem dX2_tellDoor_11 : decode cX2_tellDoor 11 = .ok (.ireturn, 1) := dk_172 (dk_at dksX2_tellDoor_0 11 rfl rfl)
theorem dX2_tellDoor_12 : decode cX2_tellDoor 12 = .ok (.aload_n 0, 1) := dk_42 (dk_at dksX2_tellDoor_0 12 rfl rfl)
theorem dX2_tellDoor_13 : decode cX2_tellDoor 13 = .ok (.iconst 0, 1) := dk_3 (dk_at dksX2_tellDoor_0 13 rfl rfl)
theorem dX2_tellDoor_14 : decode cX2_tellDoor 14 = .ok (.putfield 240, 3) := dk_181 0 240 (dk_at dksX2_tellDoor_0 14 rfl rfl)
theorem dX2_tellDoor_17 : decode cX2_tellDoor 17 = .ok (.aload_n 0, 1) := dk_42 (dk_at dksX2_tellDoor_0 17 rfl rfl)
theorem dX2_tellDoor_18 : decode cX2_tellDoor 18 = .ok (.iload_n 1, 1) := dk_27 (dk_at dksX2_tellDoor_0 18 rfl rfl)
theorem dX2_tellDoor_19 : decode cX2_tellDoor 19 = .ok (.invokevirtual 246, 3) := dk_182 0 246 (dk_at dksX2_tellDoor_0 19 rfl rfl)
theorem dX2_tellDoor_22 : decode cX2_tellDoor 22 = .ok (.aload_n 0, 1) := dk_42 (dk_at dksX2_tellDoor_0 22 rfl rfl)
theorem dX2_tellDoor_23 : decode cX2_tellDoor 23 = .ok (.bipush 58, 2) := dk_16 58 (dk_at dksX2_tellDoor_1 0 rfl rfl)
theorem dX2_tellDoor_25 : decode cX2_tellDoor 25 = .ok (.invokevirtual 243, 3) := dk_182 0 243 (dk_at dksX2_tellDoor_1 2 rfl rfl)
theorem dX2_tellDoor_28 : decode cX2_tellDoor 28 = .ok (.aload_n 0, 1) := dk_42 (dk_at dksX2_tellDoor_1 5 rfl rfl)
theorem dX2_tellDoor_29 : decode cX2_tellDoor 29 = .ok (.aload_n 0, 1) := dk_42 (dk_at dksX2_tellDoor_1 6 rfl rfl)
theorem dX2_tellDoor_30 : decode cX2_tellDoor 30 = .ok (.iload_n 1, 1) := dk_27 (dk_at dksX2_tellDoor_1 7 rfl rfl)
theorem dX2_tellDoor_31 : decode cX2_tellDoor 31 = .ok (.iconst 0, 1) := dk_3 (dk_at dksX2_tellDoor_1 8 rfl rfl)
theorem dX2_tellDoor_32 : decode cX2_tellDoor 32 = .ok (.invokevirtual 67, 3) := dk_182 0 67 (dk_at dksX2_tellDoor_1 9 rfl rfl)
theorem dX2_tellDoor_35 : decode cX2_tellDoor 35 = .ok (.invokevirtual 246, 3) := dk_182 0 246 (dk_at dksX2_tellDoor_1 12 rfl rfl)
theorem dX2_tellDoor_38 : decode cX2_tellDoor 38 = .ok (.aload_n 0, 1) := dk_42 (dk_at dksX2_tellDoor_1 15 rfl rfl)
theorem dX2_tellDoor_39 : decode cX2_tellDoor 39 = .ok (.aload_n 0, 1) := dk_42 (dk_at dksX2_tellDoor_1 16 rfl rfl)
theorem dX2_tellDoor_40 : decode cX2_tellDoor 40 = .ok (.iload_n 1, 1) := dk_27 (dk_at dksX2_tellDoor_1 17 rfl rfl)
theorem dX2_tellDoor_41 : decode cX2_tellDoor 41 = .ok (.iconst 2, 1) := dk_5 (dk_at dksX2_tellDoor_1 18 rfl rfl)
theorem dX2_tellDoor_42 : decode cX2_tellDoor 42 = .ok (.invokevirtual 67, 3) := dk_182 0 67 (dk_at dksX2_tellDoor_1 19 rfl rfl)
theorem dX2_tellDoor_45 : decode cX2_tellDoor 45 = .ok (.ifCond .ne 8, 3) := dk_154 0 8 (dk_at dksX2_tellDoor_2 0 rfl rfl)
theorem dX2_tellDoor_48 : decode cX2_tellDoor 48 = .ok (.bipush 45, 2) := dk_16 45 (dk_at dksX2_tellDoor_2 3 rfl rfl)
theorem dX2_tellDoor_50 : decode cX2_tellDoor 50 = .ok (.goto 20, 3) := dk_167 0 20 (dk_at dksX2_tellDoor_2 5 rfl rfl)
theorem dX2_tellDoor_53 : decode cX2_tellDoor 53 = .ok (.aload_n 0, 1) := dk_42 (dk_at dksX2_tellDoor_2 8 rfl rfl)
theorem dX2_tellDoor_54 : decode cX2_tellDoor 54 = .ok (.iload_n 1, 1) := dk_27 (dk_at dksX2_tellDoor_2 9 rfl rfl)
theorem dX2_tellDoor_55 : decode cX2_tellDoor 55 = .ok (.iconst 2, 1) := dk_5 (dk_at dksX2_tellDoor_2 10 rfl rfl)
theorem dX2_tellDoor_56 : decode cX2_tellDoor 56 = .ok (.invokevirtual 67, 3) := dk_182 0 67 (dk_at dksX2_tellDoor_2 11 rfl rfl)
theorem dX2_tellDoor_59 : decode cX2_tellDoor 59 = .ok (.iconst 1, 1) := dk_4 (dk_at dksX2_tellDoor_2 14 rfl rfl)
theorem dX2_tellDoor_60 : decode cX2_tellDoor 60 = .ok (.if_icmp .ne 8, 3) := dk_160 0 8 (dk_at dksX2_tellDoor_2 15 rfl rfl)
theorem dX2_tellDoor_63 : decode cX2_tellDoor 63 = .ok (.bipush 111, 2) := dk_16 111 (dk_at dksX2_tellDoor_2 18 rfl rfl)
theorem dX2_tellDoor_65 : decode cX2_tellDoor 65 = .ok (.goto 5, 3) := dk_167 0 5 (dk_at dksX2_tellDoor_2 20 rfl rfl)
theorem dX2_tellDoor_68 : decode cX2_tellDoor 68 = .ok (.bipush 101, 2) := dk_16 101 (dk_at dksX2_tellDoor_3 0 rfl rfl)
theorem dX2_tellDoor_70 : decode cX2_tellDoor 70 = .ok (.invokevirtual 243, 3) := dk_182 0 243 (dk_at dksX2_tellDoor_3 2 rfl rfl)
theorem dX2_tellDoor_73 : decode cX2_tellDoor 73 = .ok (.aload_n 0, 1) := dk_42 (dk_at dksX2_tellDoor_3 5 rfl rfl)
theorem dX2_tellDoor_74 : decode cX2_tellDoor 74 = .ok (.aload_n 0, 1) := dk_42 (dk_at dksX2_tellDoor_3 6 rfl rfl)
theorem dX2_tellDoor_75 : decode cX2_tellDoor 75 = .ok (.iload_n 1, 1) := dk_27 (dk_at dksX2_tellDoor_3 7 rfl rfl)
theorem dX2_tellDoor_76 : decode cX2_tellDoor 76 = .ok (.iconst 1, 1) := dk_4 (dk_at dksX2_tellDoor_3 8 rfl rfl)
theorem dX2_tellDoor_77 : decode cX2_tellDoor 77 = .ok (.invokevirtual 67, 3) := dk_182 0 67 (dk_at dksX2_tellDoor_3 9 rfl rfl)
theorem dX2_tellDoor_80 : decode cX2_tellDoor 80 = .ok (.invokevirtual 246, 3) := dk_182 0 246 (dk_at dksX2_tellDoor_3 12 rfl rfl)
theorem dX2_tellDoor_83 : decode cX2_tellDoor 83 = .ok (.aload_n 0, 1) := dk_42 (dk_at dksX2_tellDoor_3 15 rfl rfl)
theorem dX2_tellDoor_84 : decode cX2_tellDoor 84 = .ok (.iload_n 1, 1) := dk_27 (dk_at dksX2_tellDoor_3 16 rfl rfl)
theorem dX2_tellDoor_85 : decode cX2_tellDoor 85 = .ok (.iconst 4, 1) := dk_7 (dk_at dksX2_tellDoor_3 17 rfl rfl)
theorem dX2_tellDoor_86 : decode cX2_tellDoor 86 = .ok (.invokevirtual 67, 3) := dk_182 0 67 (dk_at dksX2_tellDoor_3 18 rfl rfl)
theorem dX2_tellDoor_89 : decode cX2_tellDoor 89 = .ok (.ifCond .ne 8, 3) := dk_154 0 8 (dk_at dksX2_tellDoor_3 21 rfl rfl)
theorem dX2_tellDoor_92 : decode cX2_tellDoor 92 = .ok (.aload_n 0, 1) := dk_42 (dk_at dksX2_tellDoor_4 0 rfl rfl)
theorem dX2_tellDoor_93 : decode cX2_tellDoor 93 = .ok (.getfield 240, 3) := dk_180 0 240 (dk_at dksX2_tellDoor_4 1 rfl rfl)
theorem dX2_tellDoor_96 : decode cX2_tellDoor 96 = .ok (.ireturn, 1) := dk_172 (dk_at dksX2_tellDoor_4 4 rfl rfl)
theorem dX2_tellDoor_97 : decode cX2_tellDoor 97 = .ok (.aload_n 0, 1) := dk_42 (dk_at dksX2_tellDoor_4 5 rfl rfl)
theorem dX2_tellDoor_98 : decode cX2_tellDoor 98 = .ok (.bipush 33, 2) := dk_16 33 (dk_at dksX2_tellDoor_4 6 rfl rfl)
theorem dX2_tellDoor_100 : decode cX2_tellDoor 100 = .ok (.invokevirtual 243, 3) := dk_182 0 243 (dk_at dksX2_tellDoor_4 8 rfl rfl)
theorem dX2_tellDoor_103 : decode cX2_tellDoor 103 = .ok (.aload_n 0, 1) := dk_42 (dk_at dksX2_tellDoor_4 11 rfl rfl)
theorem dX2_tellDoor_104 : decode cX2_tellDoor 104 = .ok (.bipush 97, 2) := dk_16 97 (dk_at dksX2_tellDoor_4 12 rfl rfl)
theorem dX2_tellDoor_106 : decode cX2_tellDoor 106 = .ok (.aload_n 0, 1) := dk_42 (dk_at dksX2_tellDoor_4 14 rfl rfl)
theorem dX2_tellDoor_107 : decode cX2_tellDoor 107 = .ok (.iload_n 1, 1) := dk_27 (dk_at dksX2_tellDoor_4 15 rfl rfl)
theorem dX2_tellDoor_108 : decode cX2_tellDoor 108 = .ok (.iconst 3, 1) := dk_6 (dk_at dksX2_tellDoor_4 16 rfl rfl)
theorem dX2_tellDoor_109 : decode cX2_tellDoor 109 = .ok (.invokevirtual 67, 3) := dk_182 0 67 (dk_at dksX2_tellDoor_4 17 rfl rfl)
theorem dX2_tellDoor_112 : decode cX2_tellDoor 112 = .ok (.iadd, 1) := dk_96 (dk_at dksX2_tellDoor_4 20 rfl rfl)
theorem dX2_tellDoor_113 : decode cX2_tellDoor 113 = .ok (.invokevirtual 243, 3) := dk_182 0 243 (dk_at dksX2_tellDoor_4 21 rfl rfl)
theorem dX2_tellDoor_116 : decode cX2_tellDoor 116 = .ok (.aload_n 0, 1) := dk_42 (dk_at dksX2_tellDoor_5 0 rfl rfl)
theorem dX2_tellDoor_117 : decode cX2_tellDoor 117 = .ok (.getfield 240, 3) := dk_180 0 240 (dk_at dksX2_tellDoor_5 1 rfl rfl)
theorem dX2_tellDoor_120 : decode cX2_tellDoor 120 = .ok (.ireturn, 1) := dk_172 (dk_at dksX2_tellDoor_5 4 rfl rfl)
abbrev cX2_character : ByteArray := prog_11_method_64_code
def yX2_character : MethodName := ⟨RX2, "character", "(I)I"⟩
def dkwX2_character_1 : List UInt8 := [17, 252, 13, 172]
abbrev dktX2_character_1 : List UInt8 := dkwX2_character_1 ++ []
def dkwX2_character_0 : List UInt8 := [27, 3, 42, 180, 0, 240, 4, 100, 184, 0, 55, 153, 0, 12, 42, 180, 0, 25, 27, 46, 167, 0, 6]
abbrev dktX2_character_0 : List UInt8 := dkwX2_character_0 ++ dktX2_character_1
theorem dksX2_character_0 : cX2_character.data.toList.drop 0 = dktX2_character_0 := by decide +kernel
theorem dksX2_character_1 : cX2_character.data.toList.drop 23 = dktX2_character_1 := dk_seg dksX2_character_0 23 rfl rfl
theorem dX2_character_0 : decode cX2_character 0 = .ok (.iload_n 1, 1) := dk_27 (dk_at dksX2_character_0 0 rfl rfl)
theorem dX2_character_1 : decode cX2_character 1 = .ok (.iconst 0, 1) := dk_3 (dk_at dksX2_character_0 1 rfl rfl)
theorem dX2_character_2 : decode cX2_character 2 = .ok (.aload_n 0, 1) := dk_42 (dk_at dksX2_character_0 2 rfl rfl)
theorem dX2_character_3 : decode cX2_character 3 = .ok (.getfield 240, 3) := dk_180 0 240 (dk_at dksX2_character_0 3 rfl rfl)
theorem dX2_character_6 : decode cX2_character 6 = .ok (.iconst 1, 1) := dk_4 (dk_at dksX2_character_0 6 rfl rfl)
theorem dX2_character_7 : decode cX2_character 7 = .ok (.isub, 1) := dk_100 (dk_at dksX2_character_0 7 rfl rfl)
theorem dX2_character_8 : decode cX2_character 8 = .ok (.invokestatic 55, 3) := dk_184 0 55 (dk_at dksX2_character_0 8 rfl rfl)
theorem dX2_character_11 : decode cX2_character 11 = .ok (.ifCond .eq 12, 3) := dk_153 0 12 (dk_at dksX2_character_0 11 rfl rfl)
theorem dX2_character_14 : decode cX2_character 14 = .ok (.aload_n 0, 1) := dk_42 (dk_at dksX2_character_0 14 rfl rfl)
theorem dX2_character_15 : decode cX2_character 15 = .ok (.getfield 25, 3) := dk_180 0 25 (dk_at dksX2_character_0 15 rfl rfl)
theorem dX2_character_18 : decode cX2_character 18 = .ok (.iload_n 1, 1) := dk_27 (dk_at dksX2_character_0 18 rfl rfl)
theorem dX2_character_19 : decode cX2_character 19 = .ok (.iaload, 1) := dk_46 (dk_at dksX2_character_0 19 rfl rfl)
theorem dX2_character_20 : decode cX2_character 20 = .ok (.goto 6, 3) := dk_167 0 6 (dk_at dksX2_character_0 20 rfl rfl)
theorem dX2_character_23 : decode cX2_character 23 = .ok (.sipush (-1011), 3) := dk_17 252 13 (dk_at dksX2_character_1 0 rfl rfl)
theorem dX2_character_26 : decode cX2_character 26 = .ok (.ireturn, 1) := dk_172 (dk_at dksX2_character_1 3 rfl rfl)
abbrev cX2_reason : ByteArray := prog_11_method_65_code
def yX2_reason : MethodName := ⟨RX2, "reason", "(Z)I"⟩
def dkwX2_reason_1 : List UInt8 := [42, 180, 0, 37, 172]
abbrev dktX2_reason_1 : List UInt8 := dkwX2_reason_1 ++ []
def dkwX2_reason_0 : List UInt8 := [42, 180, 0, 37, 154, 0, 9, 17, 252, 9, 167, 0, 18, 27, 153, 0, 10, 42, 180, 0, 41, 167, 0, 7]
abbrev dktX2_reason_0 : List UInt8 := dkwX2_reason_0 ++ dktX2_reason_1
theorem dksX2_reason_0 : cX2_reason.data.toList.drop 0 = dktX2_reason_0 := by decide +kernel
theorem dksX2_reason_1 : cX2_reason.data.toList.drop 24 = dktX2_reason_1 := dk_seg dksX2_reason_0 24 rfl rfl
theorem dX2_reason_0 : decode cX2_reason 0 = .ok (.aload_n 0, 1) := dk_42 (dk_at dksX2_reason_0 0 rfl rfl)
theorem dX2_reason_1 : decode cX2_reason 1 = .ok (.getfield 37, 3) := dk_180 0 37 (dk_at dksX2_reason_0 1 rfl rfl)
theorem dX2_reason_4 : decode cX2_reason 4 = .ok (.ifCond .ne 9, 3) := dk_154 0 9 (dk_at dksX2_reason_0 4 rfl rfl)
theorem dX2_reason_7 : decode cX2_reason 7 = .ok (.sipush (-1015), 3) := dk_17 252 9 (dk_at dksX2_reason_0 7 rfl rfl)
theorem dX2_reason_10 : decode cX2_reason 10 = .ok (.goto 18, 3) := dk_167 0 18 (dk_at dksX2_reason_0 10 rfl rfl)
theorem dX2_reason_13 : decode cX2_reason 13 = .ok (.iload_n 1, 1) := dk_27 (dk_at dksX2_reason_0 13 rfl rfl)
theorem dX2_reason_14 : decode cX2_reason 14 = .ok (.ifCond .eq 10, 3) := dk_153 0 10 (dk_at dksX2_reason_0 14 rfl rfl)
theorem dX2_reason_17 : decode cX2_reason 17 = .ok (.aload_n 0, 1) := dk_42 (dk_at dksX2_reason_0 17 rfl rfl)
theorem dX2_reason_18 : decode cX2_reason 18 = .ok (.getfield 41, 3) := dk_180 0 41 (dk_at dksX2_reason_0 18 rfl rfl)
theorem dX2_reason_21 : decode cX2_reason 21 = .ok (.goto 7, 3) := dk_167 0 7 (dk_at dksX2_reason_0 21 rfl rfl)
theorem dX2_reason_24 : decode cX2_reason 24 = .ok (.aload_n 0, 1) := dk_42 (dk_at dksX2_reason_1 0 rfl rfl)
theorem dX2_reason_25 : decode cX2_reason 25 = .ok (.getfield 37, 3) := dk_180 0 37 (dk_at dksX2_reason_1 1 rfl rfl)
theorem dX2_reason_28 : decode cX2_reason 28 = .ok (.ireturn, 1) := dk_172 (dk_at dksX2_reason_1 4 rfl rfl)
abbrev cX2_account : ByteArray := prog_11_method_71_code
def yX2_account : MethodName := ⟨RX2, "account", "(I)I"⟩
def dkwX2_account_5 : List UInt8 := [172, 17, 252, 12, 172]
abbrev dktX2_account_5 : List UInt8 := dkwX2_account_5 ++ []
def dkwX2_account_4 : List UInt8 := [46, 172, 42, 182, 1, 5, 172, 42, 180, 0, 7, 16, 9, 46, 172, 42, 180, 0, 150, 172, 42, 180, 0, 48]
abbrev dktX2_account_4 : List UInt8 := dkwX2_account_4 ++ dktX2_account_5
def dkwX2_account_3 : List UInt8 := [42, 180, 0, 7, 16, 7, 46, 172, 42, 182, 0, 255, 172, 42, 182, 1, 2, 172, 42, 180, 0, 7, 16, 8]
abbrev dktX2_account_3 : List UInt8 := dkwX2_account_3 ++ dktX2_account_4
def dkwX2_account_2 : List UInt8 := [42, 180, 0, 7, 3, 46, 172, 42, 180, 0, 7, 4, 46, 172, 42, 182, 0, 249, 172, 42, 182, 0, 252, 172]
abbrev dktX2_account_2 : List UInt8 := dkwX2_account_2 ++ dktX2_account_3
def dkwX2_account_1 : List UInt8 := [170, 0, 0, 0, 0, 0, 136, 0, 0, 0, 0, 0, 0, 0, 11, 0, 0, 0, 63, 0, 0, 0, 70, 0, 0, 0, 77, 0, 0, 0, 82, 0, 0, 0, 87, 0, 0, 0, 95, 0, 0, 0, 100, 0, 0, 0, 105, 0, 0, 0, 113, 0, 0, 0, 118, 0, 0, 0, 126, 0, 0, 0, 131]
abbrev dktX2_account_1 : List UInt8 := dkwX2_account_1 ++ dktX2_account_2
def dkwX2_account_0 : List UInt8 := [27]
abbrev dktX2_account_0 : List UInt8 := dkwX2_account_0 ++ dktX2_account_1
theorem dksX2_account_0 : cX2_account.data.toList.drop 0 = dktX2_account_0 := by decide +kernel
theorem dksX2_account_1 : cX2_account.data.toList.drop 1 = dktX2_account_1 := dk_seg dksX2_account_0 1 rfl rfl
theorem dksX2_account_2 : cX2_account.data.toList.drop 64 = dktX2_account_2 := dk_seg dksX2_account_1 63 rfl rfl
theorem dksX2_account_3 : cX2_account.data.toList.drop 88 = dktX2_account_3 := dk_seg dksX2_account_2 24 rfl rfl
theorem dksX2_account_4 : cX2_account.data.toList.drop 112 = dktX2_account_4 := dk_seg dksX2_account_3 24 rfl rfl
theorem dksX2_account_5 : cX2_account.data.toList.drop 136 = dktX2_account_5 := dk_seg dksX2_account_4 24 rfl rfl
theorem dX2_account_0 : decode cX2_account 0 = .ok (.iload_n 1, 1) := dk_27 (dk_at dksX2_account_0 0 rfl rfl)
theorem dX2_account_1 : decode cX2_account 1 = .ok (.tableswitch 136 0 11 #[63, 70, 77, 82, 87, 95, 100, 105, 113, 118, 126, 131], 63) := by decide +kernel
theorem dX2_account_64 : decode cX2_account 64 = .ok (.aload_n 0, 1) := dk_42 (dk_at dksX2_account_2 0 rfl rfl)
theorem dX2_account_65 : decode cX2_account 65 = .ok (.getfield 7, 3) := dk_180 0 7 (dk_at dksX2_account_2 1 rfl rfl)
theorem dX2_account_68 : decode cX2_account 68 = .ok (.iconst 0, 1) := dk_3 (dk_at dksX2_account_2 4 rfl rfl)
theorem dX2_account_69 : decode cX2_account 69 = .ok (.iaload, 1) := dk_46 (dk_at dksX2_account_2 5 rfl rfl)
theorem dX2_account_70 : decode cX2_account 70 = .ok (.ireturn, 1) := dk_172 (dk_at dksX2_account_2 6 rfl rfl)
theorem dX2_account_71 : decode cX2_account 71 = .ok (.aload_n 0, 1) := dk_42 (dk_at dksX2_account_2 7 rfl rfl)
theorem dX2_account_72 : decode cX2_account 72 = .ok (.getfield 7, 3) := dk_180 0 7 (dk_at dksX2_account_2 8 rfl rfl)
theorem dX2_account_75 : decode cX2_account 75 = .ok (.iconst 1, 1) := dk_4 (dk_at dksX2_account_2 11 rfl rfl)
theorem dX2_account_76 : decode cX2_account 76 = .ok (.iaload, 1) := dk_46 (dk_at dksX2_account_2 12 rfl rfl)
theorem dX2_account_77 : decode cX2_account 77 = .ok (.ireturn, 1) := dk_172 (dk_at dksX2_account_2 13 rfl rfl)
theorem dX2_account_78 : decode cX2_account 78 = .ok (.aload_n 0, 1) := dk_42 (dk_at dksX2_account_2 14 rfl rfl)
theorem dX2_account_79 : decode cX2_account 79 = .ok (.invokevirtual 249, 3) := dk_182 0 249 (dk_at dksX2_account_2 15 rfl rfl)
theorem dX2_account_82 : decode cX2_account 82 = .ok (.ireturn, 1) := dk_172 (dk_at dksX2_account_2 18 rfl rfl)
theorem dX2_account_83 : decode cX2_account 83 = .ok (.aload_n 0, 1) := dk_42 (dk_at dksX2_account_2 19 rfl rfl)
theorem dX2_account_84 : decode cX2_account 84 = .ok (.invokevirtual 252, 3) := dk_182 0 252 (dk_at dksX2_account_2 20 rfl rfl)
theorem dX2_account_87 : decode cX2_account 87 = .ok (.ireturn, 1) := dk_172 (dk_at dksX2_account_2 23 rfl rfl)
theorem dX2_account_88 : decode cX2_account 88 = .ok (.aload_n 0, 1) := dk_42 (dk_at dksX2_account_3 0 rfl rfl)
theorem dX2_account_89 : decode cX2_account 89 = .ok (.getfield 7, 3) := dk_180 0 7 (dk_at dksX2_account_3 1 rfl rfl)
theorem dX2_account_92 : decode cX2_account 92 = .ok (.bipush 7, 2) := dk_16 7 (dk_at dksX2_account_3 4 rfl rfl)
theorem dX2_account_94 : decode cX2_account 94 = .ok (.iaload, 1) := dk_46 (dk_at dksX2_account_3 6 rfl rfl)
theorem dX2_account_95 : decode cX2_account 95 = .ok (.ireturn, 1) := dk_172 (dk_at dksX2_account_3 7 rfl rfl)
theorem dX2_account_96 : decode cX2_account 96 = .ok (.aload_n 0, 1) := dk_42 (dk_at dksX2_account_3 8 rfl rfl)
theorem dX2_account_97 : decode cX2_account 97 = .ok (.invokevirtual 255, 3) := dk_182 0 255 (dk_at dksX2_account_3 9 rfl rfl)
theorem dX2_account_100 : decode cX2_account 100 = .ok (.ireturn, 1) := dk_172 (dk_at dksX2_account_3 12 rfl rfl)
theorem dX2_account_101 : decode cX2_account 101 = .ok (.aload_n 0, 1) := dk_42 (dk_at dksX2_account_3 13 rfl rfl)
theorem dX2_account_102 : decode cX2_account 102 = .ok (.invokevirtual 258, 3) := dk_182 1 2 (dk_at dksX2_account_3 14 rfl rfl)
theorem dX2_account_105 : decode cX2_account 105 = .ok (.ireturn, 1) := dk_172 (dk_at dksX2_account_3 17 rfl rfl)
theorem dX2_account_106 : decode cX2_account 106 = .ok (.aload_n 0, 1) := dk_42 (dk_at dksX2_account_3 18 rfl rfl)
theorem dX2_account_107 : decode cX2_account 107 = .ok (.getfield 7, 3) := dk_180 0 7 (dk_at dksX2_account_3 19 rfl rfl)
theorem dX2_account_110 : decode cX2_account 110 = .ok (.bipush 8, 2) := dk_16 8 (dk_at dksX2_account_3 22 rfl rfl)
theorem dX2_account_112 : decode cX2_account 112 = .ok (.iaload, 1) := dk_46 (dk_at dksX2_account_4 0 rfl rfl)
theorem dX2_account_113 : decode cX2_account 113 = .ok (.ireturn, 1) := dk_172 (dk_at dksX2_account_4 1 rfl rfl)
theorem dX2_account_114 : decode cX2_account 114 = .ok (.aload_n 0, 1) := dk_42 (dk_at dksX2_account_4 2 rfl rfl)
theorem dX2_account_115 : decode cX2_account 115 = .ok (.invokevirtual 261, 3) := dk_182 1 5 (dk_at dksX2_account_4 3 rfl rfl)
theorem dX2_account_118 : decode cX2_account 118 = .ok (.ireturn, 1) := dk_172 (dk_at dksX2_account_4 6 rfl rfl)
theorem dX2_account_119 : decode cX2_account 119 = .ok (.aload_n 0, 1) := dk_42 (dk_at dksX2_account_4 7 rfl rfl)
theorem dX2_account_120 : decode cX2_account 120 = .ok (.getfield 7, 3) := dk_180 0 7 (dk_at dksX2_account_4 8 rfl rfl)
theorem dX2_account_123 : decode cX2_account 123 = .ok (.bipush 9, 2) := dk_16 9 (dk_at dksX2_account_4 11 rfl rfl)
theorem dX2_account_125 : decode cX2_account 125 = .ok (.iaload, 1) := dk_46 (dk_at dksX2_account_4 13 rfl rfl)
theorem dX2_account_126 : decode cX2_account 126 = .ok (.ireturn, 1) := dk_172 (dk_at dksX2_account_4 14 rfl rfl)
theorem dX2_account_127 : decode cX2_account 127 = .ok (.aload_n 0, 1) := dk_42 (dk_at dksX2_account_4 15 rfl rfl)
theorem dX2_account_128 : decode cX2_account 128 = .ok (.getfield 150, 3) := dk_180 0 150 (dk_at dksX2_account_4 16 rfl rfl)
theorem dX2_account_131 : decode cX2_account 131 = .ok (.ireturn, 1) := dk_172 (dk_at dksX2_account_4 19 rfl rfl)
theorem dX2_account_132 : decode cX2_account 132 = .ok (.aload_n 0, 1) := dk_42 (dk_at dksX2_account_4 20 rfl rfl)
theorem dX2_account_133 : decode cX2_account 133 = .ok (.getfield 48, 3) := dk_180 0 48 (dk_at dksX2_account_4 21 rfl rfl)
theorem dX2_account_136 : decode cX2_account 136 = .ok (.ireturn, 1) := dk_172 (dk_at dksX2_account_5 0 rfl rfl)
theorem dX2_account_137 : decode cX2_account 137 = .ok (.sipush (-1012), 3) := dk_17 252 12 (dk_at dksX2_account_5 1 rfl rfl)
theorem dX2_account_140 : decode cX2_account 140 = .ok (.ireturn, 1) := dk_172 (dk_at dksX2_account_5 4 rfl rfl)
abbrev cX2_lit : ByteArray := prog_11_method_66_code
def yX2_lit : MethodName := ⟨RX2, "lit", "()I"⟩
def dkwX2_lit_1 : List UInt8 := [167, 0, 4, 3, 96, 60, 132, 2, 1, 167, 255, 227, 27, 172]
abbrev dktX2_lit_1 : List UInt8 := dkwX2_lit_1 ++ []
def dkwX2_lit_0 : List UInt8 := [3, 60, 3, 61, 28, 42, 180, 0, 7, 3, 46, 162, 0, 25, 27, 42, 28, 182, 0, 86, 158, 0, 7, 4]
abbrev dktX2_lit_0 : List UInt8 := dkwX2_lit_0 ++ dktX2_lit_1
theorem dksX2_lit_0 : cX2_lit.data.toList.drop 0 = dktX2_lit_0 := by decide +kernel
theorem dksX2_lit_1 : cX2_lit.data.toList.drop 24 = dktX2_lit_1 := dk_seg dksX2_lit_0 24 rfl rfl
theorem dX2_lit_0 : decode cX2_lit 0 = .ok (.iconst 0, 1) := dk_3 (dk_at dksX2_lit_0 0 rfl rfl)
theorem dX2_lit_1 : decode cX2_lit 1 = .ok (.istore_n 1, 1) := dk_60 (dk_at dksX2_lit_0 1 rfl rfl)
theorem dX2_lit_2 : decode cX2_lit 2 = .ok (.iconst 0, 1) := dk_3 (dk_at dksX2_lit_0 2 rfl rfl)
theorem dX2_lit_3 : decode cX2_lit 3 = .ok (.istore_n 2, 1) := dk_61 (dk_at dksX2_lit_0 3 rfl rfl)
theorem dX2_lit_4 : decode cX2_lit 4 = .ok (.iload_n 2, 1) := dk_28 (dk_at dksX2_lit_0 4 rfl rfl)
theorem dX2_lit_5 : decode cX2_lit 5 = .ok (.aload_n 0, 1) := dk_42 (dk_at dksX2_lit_0 5 rfl rfl)
theorem dX2_lit_6 : decode cX2_lit 6 = .ok (.getfield 7, 3) := dk_180 0 7 (dk_at dksX2_lit_0 6 rfl rfl)
theorem dX2_lit_9 : decode cX2_lit 9 = .ok (.iconst 0, 1) := dk_3 (dk_at dksX2_lit_0 9 rfl rfl)
theorem dX2_lit_10 : decode cX2_lit 10 = .ok (.iaload, 1) := dk_46 (dk_at dksX2_lit_0 10 rfl rfl)
theorem dX2_lit_11 : decode cX2_lit 11 = .ok (.if_icmp .ge 25, 3) := dk_162 0 25 (dk_at dksX2_lit_0 11 rfl rfl)
theorem dX2_lit_14 : decode cX2_lit 14 = .ok (.iload_n 1, 1) := dk_27 (dk_at dksX2_lit_0 14 rfl rfl)
theorem dX2_lit_15 : decode cX2_lit 15 = .ok (.aload_n 0, 1) := dk_42 (dk_at dksX2_lit_0 15 rfl rfl)
theorem dX2_lit_16 : decode cX2_lit 16 = .ok (.iload_n 2, 1) := dk_28 (dk_at dksX2_lit_0 16 rfl rfl)
theorem dX2_lit_17 : decode cX2_lit 17 = .ok (.invokevirtual 86, 3) := dk_182 0 86 (dk_at dksX2_lit_0 17 rfl rfl)
theorem dX2_lit_20 : decode cX2_lit 20 = .ok (.ifCond .le 7, 3) := dk_158 0 7 (dk_at dksX2_lit_0 20 rfl rfl)
theorem dX2_lit_23 : decode cX2_lit 23 = .ok (.iconst 1, 1) := dk_4 (dk_at dksX2_lit_0 23 rfl rfl)
theorem dX2_lit_24 : decode cX2_lit 24 = .ok (.goto 4, 3) := dk_167 0 4 (dk_at dksX2_lit_1 0 rfl rfl)
theorem dX2_lit_27 : decode cX2_lit 27 = .ok (.iconst 0, 1) := dk_3 (dk_at dksX2_lit_1 3 rfl rfl)
theorem dX2_lit_28 : decode cX2_lit 28 = .ok (.iadd, 1) := dk_96 (dk_at dksX2_lit_1 4 rfl rfl)
theorem dX2_lit_29 : decode cX2_lit 29 = .ok (.istore_n 1, 1) := dk_60 (dk_at dksX2_lit_1 5 rfl rfl)
theorem dX2_lit_30 : decode cX2_lit 30 = .ok (.iinc 2 1, 3) := dk_132 2 1 (dk_at dksX2_lit_1 6 rfl rfl)
theorem dX2_lit_33 : decode cX2_lit 33 = .ok (.goto (-29), 3) := dk_167 255 227 (dk_at dksX2_lit_1 9 rfl rfl)
theorem dX2_lit_36 : decode cX2_lit 36 = .ok (.iload_n 1, 1) := dk_27 (dk_at dksX2_lit_1 12 rfl rfl)
theorem dX2_lit_37 : decode cX2_lit 37 = .ok (.ireturn, 1) := dk_172 (dk_at dksX2_lit_1 13 rfl rfl)
abbrev cX2_shut : ByteArray := prog_11_method_67_code
def yX2_shut : MethodName := ⟨RX2, "shut", "()I"⟩
def dkwX2_shut_1 : List UInt8 := [132, 2, 1, 167, 255, 234, 27, 172]
abbrev dktX2_shut_1 : List UInt8 := dkwX2_shut_1 ++ []
def dkwX2_shut_0 : List UInt8 := [3, 60, 3, 61, 28, 42, 180, 0, 7, 4, 46, 162, 0, 18, 27, 42, 28, 7, 182, 0, 67, 96, 60]
abbrev dktX2_shut_0 : List UInt8 := dkwX2_shut_0 ++ dktX2_shut_1
theorem dksX2_shut_0 : cX2_shut.data.toList.drop 0 = dktX2_shut_0 := by decide +kernel
theorem dksX2_shut_1 : cX2_shut.data.toList.drop 23 = dktX2_shut_1 := dk_seg dksX2_shut_0 23 rfl rfl
theorem dX2_shut_0 : decode cX2_shut 0 = .ok (.iconst 0, 1) := dk_3 (dk_at dksX2_shut_0 0 rfl rfl)
theorem dX2_shut_1 : decode cX2_shut 1 = .ok (.istore_n 1, 1) := dk_60 (dk_at dksX2_shut_0 1 rfl rfl)
theorem dX2_shut_2 : decode cX2_shut 2 = .ok (.iconst 0, 1) := dk_3 (dk_at dksX2_shut_0 2 rfl rfl)
theorem dX2_shut_3 : decode cX2_shut 3 = .ok (.istore_n 2, 1) := dk_61 (dk_at dksX2_shut_0 3 rfl rfl)
theorem dX2_shut_4 : decode cX2_shut 4 = .ok (.iload_n 2, 1) := dk_28 (dk_at dksX2_shut_0 4 rfl rfl)
theorem dX2_shut_5 : decode cX2_shut 5 = .ok (.aload_n 0, 1) := dk_42 (dk_at dksX2_shut_0 5 rfl rfl)
theorem dX2_shut_6 : decode cX2_shut 6 = .ok (.getfield 7, 3) := dk_180 0 7 (dk_at dksX2_shut_0 6 rfl rfl)
theorem dX2_shut_9 : decode cX2_shut 9 = .ok (.iconst 1, 1) := dk_4 (dk_at dksX2_shut_0 9 rfl rfl)
theorem dX2_shut_10 : decode cX2_shut 10 = .ok (.iaload, 1) := dk_46 (dk_at dksX2_shut_0 10 rfl rfl)
theorem dX2_shut_11 : decode cX2_shut 11 = .ok (.if_icmp .ge 18, 3) := dk_162 0 18 (dk_at dksX2_shut_0 11 rfl rfl)
theorem dX2_shut_14 : decode cX2_shut 14 = .ok (.iload_n 1, 1) := dk_27 (dk_at dksX2_shut_0 14 rfl rfl)
theorem dX2_shut_15 : decode cX2_shut 15 = .ok (.aload_n 0, 1) := dk_42 (dk_at dksX2_shut_0 15 rfl rfl)
theorem dX2_shut_16 : decode cX2_shut 16 = .ok (.iload_n 2, 1) := dk_28 (dk_at dksX2_shut_0 16 rfl rfl)
theorem dX2_shut_17 : decode cX2_shut 17 = .ok (.iconst 4, 1) := dk_7 (dk_at dksX2_shut_0 17 rfl rfl)
theorem dX2_shut_18 : decode cX2_shut 18 = .ok (.invokevirtual 67, 3) := dk_182 0 67 (dk_at dksX2_shut_0 18 rfl rfl)
theorem dX2_shut_21 : decode cX2_shut 21 = .ok (.iadd, 1) := dk_96 (dk_at dksX2_shut_0 21 rfl rfl)
theorem dX2_shut_22 : decode cX2_shut 22 = .ok (.istore_n 1, 1) := dk_60 (dk_at dksX2_shut_0 22 rfl rfl)
theorem dX2_shut_23 : decode cX2_shut 23 = .ok (.iinc 2 1, 3) := dk_132 2 1 (dk_at dksX2_shut_1 0 rfl rfl)
theorem dX2_shut_26 : decode cX2_shut 26 = .ok (.goto (-22), 3) := dk_167 255 234 (dk_at dksX2_shut_1 3 rfl rfl)
theorem dX2_shut_29 : decode cX2_shut 29 = .ok (.iload_n 1, 1) := dk_27 (dk_at dksX2_shut_1 6 rfl rfl)
theorem dX2_shut_30 : decode cX2_shut 30 = .ok (.ireturn, 1) := dk_172 (dk_at dksX2_shut_1 7 rfl rfl)
abbrev cX2_lying : ByteArray := prog_11_method_68_code
def yX2_lying : MethodName := ⟨RX2, "lying", "()I"⟩
def dkwX2_lying_2 : List UInt8 := [132, 2, 1, 167, 255, 212, 27, 172]
abbrev dktX2_lying_2 : List UInt8 := dkwX2_lying_2 ++ []
def dkwX2_lying_1 : List UInt8 := [180, 0, 7, 16, 10, 7, 28, 104, 96, 4, 96, 29, 96, 46, 96, 60, 132, 3, 1, 167, 255, 230]
abbrev dktX2_lying_1 : List UInt8 := dkwX2_lying_1 ++ dktX2_lying_2
def dkwX2_lying_0 : List UInt8 := [3, 60, 3, 61, 28, 42, 180, 0, 7, 3, 46, 162, 0, 40, 3, 62, 29, 6, 162, 0, 27, 27, 42]
abbrev dktX2_lying_0 : List UInt8 := dkwX2_lying_0 ++ dktX2_lying_1
theorem dksX2_lying_0 : cX2_lying.data.toList.drop 0 = dktX2_lying_0 := by decide +kernel
theorem dksX2_lying_1 : cX2_lying.data.toList.drop 23 = dktX2_lying_1 := dk_seg dksX2_lying_0 23 rfl rfl
theorem dksX2_lying_2 : cX2_lying.data.toList.drop 45 = dktX2_lying_2 := dk_seg dksX2_lying_1 22 rfl rfl
theorem dX2_lying_0 : decode cX2_lying 0 = .ok (.iconst 0, 1) := dk_3 (dk_at dksX2_lying_0 0 rfl rfl)
theorem dX2_lying_1 : decode cX2_lying 1 = .ok (.istore_n 1, 1) := dk_60 (dk_at dksX2_lying_0 1 rfl rfl)
theorem dX2_lying_2 : decode cX2_lying 2 = .ok (.iconst 0, 1) := dk_3 (dk_at dksX2_lying_0 2 rfl rfl)
theorem dX2_lying_3 : decode cX2_lying 3 = .ok (.istore_n 2, 1) := dk_61 (dk_at dksX2_lying_0 3 rfl rfl)
theorem dX2_lying_4 : decode cX2_lying 4 = .ok (.iload_n 2, 1) := dk_28 (dk_at dksX2_lying_0 4 rfl rfl)
theorem dX2_lying_5 : decode cX2_lying 5 = .ok (.aload_n 0, 1) := dk_42 (dk_at dksX2_lying_0 5 rfl rfl)
theorem dX2_lying_6 : decode cX2_lying 6 = .ok (.getfield 7, 3) := dk_180 0 7 (dk_at dksX2_lying_0 6 rfl rfl)
theorem dX2_lying_9 : decode cX2_lying 9 = .ok (.iconst 0, 1) := dk_3 (dk_at dksX2_lying_0 9 rfl rfl)
theorem dX2_lying_10 : decode cX2_lying 10 = .ok (.iaload, 1) := dk_46 (dk_at dksX2_lying_0 10 rfl rfl)
theorem dX2_lying_11 : decode cX2_lying 11 = .ok (.if_icmp .ge 40, 3) := dk_162 0 40 (dk_at dksX2_lying_0 11 rfl rfl)
theorem dX2_lying_14 : decode cX2_lying 14 = .ok (.iconst 0, 1) := dk_3 (dk_at dksX2_lying_0 14 rfl rfl)
theorem dX2_lying_15 : decode cX2_lying 15 = .ok (.istore_n 3, 1) := dk_62 (dk_at dksX2_lying_0 15 rfl rfl)
theorem dX2_lying_16 : decode cX2_lying 16 = .ok (.iload_n 3, 1) := dk_29 (dk_at dksX2_lying_0 16 rfl rfl)
theorem dX2_lying_17 : decode cX2_lying 17 = .ok (.iconst 3, 1) := dk_6 (dk_at dksX2_lying_0 17 rfl rfl)
theorem dX2_lying_18 : decode cX2_lying 18 = .ok (.if_icmp .ge 27, 3) := dk_162 0 27 (dk_at dksX2_lying_0 18 rfl rfl)
theorem dX2_lying_21 : decode cX2_lying 21 = .ok (.iload_n 1, 1) := dk_27 (dk_at dksX2_lying_0 21 rfl rfl)
theorem dX2_lying_22 : decode cX2_lying 22 = .ok (.aload_n 0, 1) := dk_42 (dk_at dksX2_lying_0 22 rfl rfl)
theorem dX2_lying_23 : decode cX2_lying 23 = .ok (.getfield 7, 3) := dk_180 0 7 (dk_at dksX2_lying_1 0 rfl rfl)
theorem dX2_lying_26 : decode cX2_lying 26 = .ok (.bipush 10, 2) := dk_16 10 (dk_at dksX2_lying_1 3 rfl rfl)
theorem dX2_lying_28 : decode cX2_lying 28 = .ok (.iconst 4, 1) := dk_7 (dk_at dksX2_lying_1 5 rfl rfl)
theorem dX2_lying_29 : decode cX2_lying 29 = .ok (.iload_n 2, 1) := dk_28 (dk_at dksX2_lying_1 6 rfl rfl)
theorem dX2_lying_30 : decode cX2_lying 30 = .ok (.imul, 1) := dk_104 (dk_at dksX2_lying_1 7 rfl rfl)
theorem dX2_lying_31 : decode cX2_lying 31 = .ok (.iadd, 1) := dk_96 (dk_at dksX2_lying_1 8 rfl rfl)
theorem dX2_lying_32 : decode cX2_lying 32 = .ok (.iconst 1, 1) := dk_4 (dk_at dksX2_lying_1 9 rfl rfl)
theorem dX2_lying_33 : decode cX2_lying 33 = .ok (.iadd, 1) := dk_96 (dk_at dksX2_lying_1 10 rfl rfl)
theorem dX2_lying_34 : decode cX2_lying 34 = .ok (.iload_n 3, 1) := dk_29 (dk_at dksX2_lying_1 11 rfl rfl)
theorem dX2_lying_35 : decode cX2_lying 35 = .ok (.iadd, 1) := dk_96 (dk_at dksX2_lying_1 12 rfl rfl)
theorem dX2_lying_36 : decode cX2_lying 36 = .ok (.iaload, 1) := dk_46 (dk_at dksX2_lying_1 13 rfl rfl)
theorem dX2_lying_37 : decode cX2_lying 37 = .ok (.iadd, 1) := dk_96 (dk_at dksX2_lying_1 14 rfl rfl)
theorem dX2_lying_38 : decode cX2_lying 38 = .ok (.istore_n 1, 1) := dk_60 (dk_at dksX2_lying_1 15 rfl rfl)
theorem dX2_lying_39 : decode cX2_lying 39 = .ok (.iinc 3 1, 3) := dk_132 3 1 (dk_at dksX2_lying_1 16 rfl rfl)
theorem dX2_lying_42 : decode cX2_lying 42 = .ok (.goto (-26), 3) := dk_167 255 230 (dk_at dksX2_lying_1 19 rfl rfl)
theorem dX2_lying_45 : decode cX2_lying 45 = .ok (.iinc 2 1, 3) := dk_132 2 1 (dk_at dksX2_lying_2 0 rfl rfl)
theorem dX2_lying_48 : decode cX2_lying 48 = .ok (.goto (-44), 3) := dk_167 255 212 (dk_at dksX2_lying_2 3 rfl rfl)
theorem dX2_lying_51 : decode cX2_lying 51 = .ok (.iload_n 1, 1) := dk_27 (dk_at dksX2_lying_2 6 rfl rfl)
theorem dX2_lying_52 : decode cX2_lying 52 = .ok (.ireturn, 1) := dk_172 (dk_at dksX2_lying_2 7 rfl rfl)
abbrev cX2_inHand : ByteArray := prog_11_method_69_code
def yX2_inHand : MethodName := ⟨RX2, "inHand", "()I"⟩
def dkwX2_inHand_0 : List UInt8 := [42, 180, 0, 7, 7, 46, 42, 180, 0, 7, 8, 46, 96, 42, 180, 0, 7, 16, 6, 46, 96, 172]
abbrev dktX2_inHand_0 : List UInt8 := dkwX2_inHand_0 ++ []
theorem dksX2_inHand_0 : cX2_inHand.data.toList.drop 0 = dktX2_inHand_0 := by decide +kernel
theorem dX2_inHand_0 : decode cX2_inHand 0 = .ok (.aload_n 0, 1) := dk_42 (dk_at dksX2_inHand_0 0 rfl rfl)
theorem dX2_inHand_1 : decode cX2_inHand 1 = .ok (.getfield 7, 3) := dk_180 0 7 (dk_at dksX2_inHand_0 1 rfl rfl)
theorem dX2_inHand_4 : decode cX2_inHand 4 = .ok (.iconst 4, 1) := dk_7 (dk_at dksX2_inHand_0 4 rfl rfl)
theorem dX2_inHand_5 : decode cX2_inHand 5 = .ok (.iaload, 1) := dk_46 (dk_at dksX2_inHand_0 5 rfl rfl)
theorem dX2_inHand_6 : decode cX2_inHand 6 = .ok (.aload_n 0, 1) := dk_42 (dk_at dksX2_inHand_0 6 rfl rfl)
theorem dX2_inHand_7 : decode cX2_inHand 7 = .ok (.getfield 7, 3) := dk_180 0 7 (dk_at dksX2_inHand_0 7 rfl rfl)
theorem dX2_inHand_10 : decode cX2_inHand 10 = .ok (.iconst 5, 1) := dk_8 (dk_at dksX2_inHand_0 10 rfl rfl)
theorem dX2_inHand_11 : decode cX2_inHand 11 = .ok (.iaload, 1) := dk_46 (dk_at dksX2_inHand_0 11 rfl rfl)
theorem dX2_inHand_12 : decode cX2_inHand 12 = .ok (.iadd, 1) := dk_96 (dk_at dksX2_inHand_0 12 rfl rfl)
theorem dX2_inHand_13 : decode cX2_inHand 13 = .ok (.aload_n 0, 1) := dk_42 (dk_at dksX2_inHand_0 13 rfl rfl)
theorem dX2_inHand_14 : decode cX2_inHand 14 = .ok (.getfield 7, 3) := dk_180 0 7 (dk_at dksX2_inHand_0 14 rfl rfl)
theorem dX2_inHand_17 : decode cX2_inHand 17 = .ok (.bipush 6, 2) := dk_16 6 (dk_at dksX2_inHand_0 17 rfl rfl)
theorem dX2_inHand_19 : decode cX2_inHand 19 = .ok (.iaload, 1) := dk_46 (dk_at dksX2_inHand_0 19 rfl rfl)
theorem dX2_inHand_20 : decode cX2_inHand 20 = .ok (.iadd, 1) := dk_96 (dk_at dksX2_inHand_0 20 rfl rfl)
theorem dX2_inHand_21 : decode cX2_inHand 21 = .ok (.ireturn, 1) := dk_172 (dk_at dksX2_inHand_0 21 rfl rfl)
abbrev cX2_allOil : ByteArray := prog_11_method_70_code
def yX2_allOil : MethodName := ⟨RX2, "allOil", "()I"⟩
def dkwX2_allOil_1 : List UInt8 := [132, 2, 1, 167, 255, 235, 27, 172]
abbrev dktX2_allOil_1 : List UInt8 := dkwX2_allOil_1 ++ []
def dkwX2_allOil_0 : List UInt8 := [3, 60, 3, 61, 28, 42, 180, 0, 7, 3, 46, 162, 0, 17, 27, 42, 28, 182, 0, 86, 96, 60]
abbrev dktX2_allOil_0 : List UInt8 := dkwX2_allOil_0 ++ dktX2_allOil_1
theorem dksX2_allOil_0 : cX2_allOil.data.toList.drop 0 = dktX2_allOil_0 := by decide +kernel
theorem dksX2_allOil_1 : cX2_allOil.data.toList.drop 22 = dktX2_allOil_1 := dk_seg dksX2_allOil_0 22 rfl rfl
theorem dX2_allOil_0 : decode cX2_allOil 0 = .ok (.iconst 0, 1) := dk_3 (dk_at dksX2_allOil_0 0 rfl rfl)
theorem dX2_allOil_1 : decode cX2_allOil 1 = .ok (.istore_n 1, 1) := dk_60 (dk_at dksX2_allOil_0 1 rfl rfl)
theorem dX2_allOil_2 : decode cX2_allOil 2 = .ok (.iconst 0, 1) := dk_3 (dk_at dksX2_allOil_0 2 rfl rfl)
theorem dX2_allOil_3 : decode cX2_allOil 3 = .ok (.istore_n 2, 1) := dk_61 (dk_at dksX2_allOil_0 3 rfl rfl)
theorem dX2_allOil_4 : decode cX2_allOil 4 = .ok (.iload_n 2, 1) := dk_28 (dk_at dksX2_allOil_0 4 rfl rfl)
theorem dX2_allOil_5 : decode cX2_allOil 5 = .ok (.aload_n 0, 1) := dk_42 (dk_at dksX2_allOil_0 5 rfl rfl)
theorem dX2_allOil_6 : decode cX2_allOil 6 = .ok (.getfield 7, 3) := dk_180 0 7 (dk_at dksX2_allOil_0 6 rfl rfl)
theorem dX2_allOil_9 : decode cX2_allOil 9 = .ok (.iconst 0, 1) := dk_3 (dk_at dksX2_allOil_0 9 rfl rfl)
theorem dX2_allOil_10 : decode cX2_allOil 10 = .ok (.iaload, 1) := dk_46 (dk_at dksX2_allOil_0 10 rfl rfl)
theorem dX2_allOil_11 : decode cX2_allOil 11 = .ok (.if_icmp .ge 17, 3) := dk_162 0 17 (dk_at dksX2_allOil_0 11 rfl rfl)
theorem dX2_allOil_14 : decode cX2_allOil 14 = .ok (.iload_n 1, 1) := dk_27 (dk_at dksX2_allOil_0 14 rfl rfl)
theorem dX2_allOil_15 : decode cX2_allOil 15 = .ok (.aload_n 0, 1) := dk_42 (dk_at dksX2_allOil_0 15 rfl rfl)
theorem dX2_allOil_16 : decode cX2_allOil 16 = .ok (.iload_n 2, 1) := dk_28 (dk_at dksX2_allOil_0 16 rfl rfl)
theorem dX2_allOil_17 : decode cX2_allOil 17 = .ok (.invokevirtual 86, 3) := dk_182 0 86 (dk_at dksX2_allOil_0 17 rfl rfl)
theorem dX2_allOil_20 : decode cX2_allOil 20 = .ok (.iadd, 1) := dk_96 (dk_at dksX2_allOil_0 20 rfl rfl)
theorem dX2_allOil_21 : decode cX2_allOil 21 = .ok (.istore_n 1, 1) := dk_60 (dk_at dksX2_allOil_0 21 rfl rfl)
theorem dX2_allOil_22 : decode cX2_allOil 22 = .ok (.iinc 2 1, 3) := dk_132 2 1 (dk_at dksX2_allOil_1 0 rfl rfl)
theorem dX2_allOil_25 : decode cX2_allOil 25 = .ok (.goto (-21), 3) := dk_167 255 235 (dk_at dksX2_allOil_1 3 rfl rfl)
theorem dX2_allOil_28 : decode cX2_allOil 28 = .ok (.iload_n 1, 1) := dk_27 (dk_at dksX2_allOil_1 6 rfl rfl)
theorem dX2_allOil_29 : decode cX2_allOil 29 = .ok (.ireturn, 1) := dk_172 (dk_at dksX2_allOil_1 7 rfl rfl)
abbrev cX2_isBalanced : ByteArray := prog_11_method_72_code
def yX2_isBalanced : MethodName := ⟨RX2, "isBalanced", "()I"⟩
def dkwX2_isBalanced_1 : List UInt8 := [160, 0, 7, 4, 167, 0, 4, 3, 172]
abbrev dktX2_isBalanced_1 : List UInt8 := dkwX2_isBalanced_1 ++ []
def dkwX2_isBalanced_0 : List UInt8 := [42, 180, 0, 7, 16, 7, 46, 42, 182, 0, 255, 42, 182, 1, 2, 96, 42, 180, 0, 7, 16, 8, 46, 96]
abbrev dktX2_isBalanced_0 : List UInt8 := dkwX2_isBalanced_0 ++ dktX2_isBalanced_1
theorem dksX2_isBalanced_0 : cX2_isBalanced.data.toList.drop 0 = dktX2_isBalanced_0 := by decide +kernel
theorem dksX2_isBalanced_1 : cX2_isBalanced.data.toList.drop 24 = dktX2_isBalanced_1 := dk_seg dksX2_isBalanced_0 24 rfl rfl
theorem dX2_isBalanced_0 : decode cX2_isBalanced 0 = .ok (.aload_n 0, 1) := dk_42 (dk_at dksX2_isBalanced_0 0 rfl rfl)
theorem dX2_isBalanced_1 : decode cX2_isBalanced 1 = .ok (.getfield 7, 3) := dk_180 0 7 (dk_at dksX2_isBalanced_0 1 rfl rfl)
theorem dX2_isBalanced_4 : decode cX2_isBalanced 4 = .ok (.bipush 7, 2) := dk_16 7 (dk_at dksX2_isBalanced_0 4 rfl rfl)
theorem dX2_isBalanced_6 : decode cX2_isBalanced 6 = .ok (.iaload, 1) := dk_46 (dk_at dksX2_isBalanced_0 6 rfl rfl)
theorem dX2_isBalanced_7 : decode cX2_isBalanced 7 = .ok (.aload_n 0, 1) := dk_42 (dk_at dksX2_isBalanced_0 7 rfl rfl)
theorem dX2_isBalanced_8 : decode cX2_isBalanced 8 = .ok (.invokevirtual 255, 3) := dk_182 0 255 (dk_at dksX2_isBalanced_0 8 rfl rfl)
theorem dX2_isBalanced_11 : decode cX2_isBalanced 11 = .ok (.aload_n 0, 1) := dk_42 (dk_at dksX2_isBalanced_0 11 rfl rfl)
theorem dX2_isBalanced_12 : decode cX2_isBalanced 12 = .ok (.invokevirtual 258, 3) := dk_182 1 2 (dk_at dksX2_isBalanced_0 12 rfl rfl)
theorem dX2_isBalanced_15 : decode cX2_isBalanced 15 = .ok (.iadd, 1) := dk_96 (dk_at dksX2_isBalanced_0 15 rfl rfl)
theorem dX2_isBalanced_16 : decode cX2_isBalanced 16 = .ok (.aload_n 0, 1) := dk_42 (dk_at dksX2_isBalanced_0 16 rfl rfl)
theorem dX2_isBalanced_17 : decode cX2_isBalanced 17 = .ok (.getfield 7, 3) := dk_180 0 7 (dk_at dksX2_isBalanced_0 17 rfl rfl)
theorem dX2_isBalanced_20 : decode cX2_isBalanced 20 = .ok (.bipush 8, 2) := dk_16 8 (dk_at dksX2_isBalanced_0 20 rfl rfl)
theorem dX2_isBalanced_22 : decode cX2_isBalanced 22 = .ok (.iaload, 1) := dk_46 (dk_at dksX2_isBalanced_0 22 rfl rfl)
theorem dX2_isBalanced_23 : decode cX2_isBalanced 23 = .ok (.iadd, 1) := dk_96 (dk_at dksX2_isBalanced_0 23 rfl rfl)
theorem dX2_isBalanced_24 : decode cX2_isBalanced 24 = .ok (.if_icmp .ne 7, 3) := dk_160 0 7 (dk_at dksX2_isBalanced_1 0 rfl rfl)
theorem dX2_isBalanced_27 : decode cX2_isBalanced 27 = .ok (.iconst 1, 1) := dk_4 (dk_at dksX2_isBalanced_1 3 rfl rfl)
theorem dX2_isBalanced_28 : decode cX2_isBalanced 28 = .ok (.goto 4, 3) := dk_167 0 4 (dk_at dksX2_isBalanced_1 4 rfl rfl)
theorem dX2_isBalanced_31 : decode cX2_isBalanced 31 = .ok (.iconst 0, 1) := dk_3 (dk_at dksX2_isBalanced_1 7 rfl rfl)
theorem dX2_isBalanced_32 : decode cX2_isBalanced 32 = .ok (.ireturn, 1) := dk_172 (dk_at dksX2_isBalanced_1 8 rfl rfl)
abbrev cX2_meanOil : ByteArray := prog_11_method_73_code
def yX2_meanOil : MethodName := ⟨RX2, "meanOil", "()D"⟩
def dkwX2_meanOil_1 : List UInt8 := [135, 111, 175]
abbrev dktX2_meanOil_1 : List UInt8 := dkwX2_meanOil_1 ++ []
def dkwX2_meanOil_0 : List UInt8 := [42, 180, 0, 7, 3, 46, 154, 0, 7, 14, 167, 0, 16, 42, 182, 1, 5, 135, 42, 180, 0, 7, 3, 46]
abbrev dktX2_meanOil_0 : List UInt8 := dkwX2_meanOil_0 ++ dktX2_meanOil_1
theorem dksX2_meanOil_0 : cX2_meanOil.data.toList.drop 0 = dktX2_meanOil_0 := by decide +kernel
theorem dksX2_meanOil_1 : cX2_meanOil.data.toList.drop 24 = dktX2_meanOil_1 := dk_seg dksX2_meanOil_0 24 rfl rfl
theorem dX2_meanOil_0 : decode cX2_meanOil 0 = .ok (.aload_n 0, 1) := dk_42 (dk_at dksX2_meanOil_0 0 rfl rfl)
theorem dX2_meanOil_1 : decode cX2_meanOil 1 = .ok (.getfield 7, 3) := dk_180 0 7 (dk_at dksX2_meanOil_0 1 rfl rfl)
theorem dX2_meanOil_4 : decode cX2_meanOil 4 = .ok (.iconst 0, 1) := dk_3 (dk_at dksX2_meanOil_0 4 rfl rfl)
theorem dX2_meanOil_5 : decode cX2_meanOil 5 = .ok (.iaload, 1) := dk_46 (dk_at dksX2_meanOil_0 5 rfl rfl)
theorem dX2_meanOil_6 : decode cX2_meanOil 6 = .ok (.ifCond .ne 7, 3) := dk_154 0 7 (dk_at dksX2_meanOil_0 6 rfl rfl)
theorem dX2_meanOil_9 : decode cX2_meanOil 9 = .ok (.dconst 0, 1) := dk_14 (dk_at dksX2_meanOil_0 9 rfl rfl)
theorem dX2_meanOil_10 : decode cX2_meanOil 10 = .ok (.goto 16, 3) := dk_167 0 16 (dk_at dksX2_meanOil_0 10 rfl rfl)
theorem dX2_meanOil_13 : decode cX2_meanOil 13 = .ok (.aload_n 0, 1) := dk_42 (dk_at dksX2_meanOil_0 13 rfl rfl)
theorem dX2_meanOil_14 : decode cX2_meanOil 14 = .ok (.invokevirtual 261, 3) := dk_182 1 5 (dk_at dksX2_meanOil_0 14 rfl rfl)
theorem dX2_meanOil_17 : decode cX2_meanOil 17 = .ok (.i2d, 1) := dk_135 (dk_at dksX2_meanOil_0 17 rfl rfl)
theorem dX2_meanOil_18 : decode cX2_meanOil 18 = .ok (.aload_n 0, 1) := dk_42 (dk_at dksX2_meanOil_0 18 rfl rfl)
theorem dX2_meanOil_19 : decode cX2_meanOil 19 = .ok (.getfield 7, 3) := dk_180 0 7 (dk_at dksX2_meanOil_0 19 rfl rfl)
theorem dX2_meanOil_22 : decode cX2_meanOil 22 = .ok (.iconst 0, 1) := dk_3 (dk_at dksX2_meanOil_0 22 rfl rfl)
theorem dX2_meanOil_23 : decode cX2_meanOil 23 = .ok (.iaload, 1) := dk_46 (dk_at dksX2_meanOil_0 23 rfl rfl)
theorem dX2_meanOil_24 : decode cX2_meanOil 24 = .ok (.i2d, 1) := dk_135 (dk_at dksX2_meanOil_1 0 rfl rfl)
theorem dX2_meanOil_25 : decode cX2_meanOil 25 = .ok (.ddiv, 1) := dk_111 (dk_at dksX2_meanOil_1 1 rfl rfl)
theorem dX2_meanOil_26 : decode cX2_meanOil 26 = .ok (.dreturn, 1) := dk_175 (dk_at dksX2_meanOil_1 2 rfl rfl)
abbrev cX2_doubledShare : ByteArray := prog_11_method_74_code
def yX2_doubledShare : MethodName := ⟨RX2, "doubledShare", "()F"⟩
def dkwX2_doubledShare_2 : List UInt8 := [167, 255, 227, 27, 134, 42, 180, 0, 7, 3, 46, 134, 110, 174]
abbrev dktX2_doubledShare_2 : List UInt8 := dkwX2_doubledShare_2 ++ []
def dkwX2_doubledShare_1 : List UInt8 := [162, 0, 25, 27, 42, 28, 182, 0, 147, 153, 0, 7, 4, 167, 0, 4, 3, 96, 60, 132, 2, 1]
abbrev dktX2_doubledShare_1 : List UInt8 := dkwX2_doubledShare_1 ++ dktX2_doubledShare_2
def dkwX2_doubledShare_0 : List UInt8 := [42, 180, 0, 7, 3, 46, 154, 0, 5, 11, 174, 3, 60, 3, 61, 28, 42, 180, 0, 7, 3, 46]
abbrev dktX2_doubledShare_0 : List UInt8 := dkwX2_doubledShare_0 ++ dktX2_doubledShare_1
theorem dksX2_doubledShare_0 : cX2_doubledShare.data.toList.drop 0 = dktX2_doubledShare_0 := by decide +kernel
theorem dksX2_doubledShare_1 : cX2_doubledShare.data.toList.drop 22 = dktX2_doubledShare_1 := dk_seg dksX2_doubledShare_0 22 rfl rfl
theorem dksX2_doubledShare_2 : cX2_doubledShare.data.toList.drop 44 = dktX2_doubledShare_2 := dk_seg dksX2_doubledShare_1 22 rfl rfl
theorem dX2_doubledShare_0 : decode cX2_doubledShare 0 = .ok (.aload_n 0, 1) := dk_42 (dk_at dksX2_doubledShare_0 0 rfl rfl)
theorem dX2_doubledShare_1 : decode cX2_doubledShare 1 = .ok (.getfield 7, 3) := dk_180 0 7 (dk_at dksX2_doubledShare_0 1 rfl rfl)
theorem dX2_doubledShare_4 : decode cX2_doubledShare 4 = .ok (.iconst 0, 1) := dk_3 (dk_at dksX2_doubledShare_0 4 rfl rfl)
theorem dX2_doubledShare_5 : decode cX2_doubledShare 5 = .ok (.iaload, 1) := dk_46 (dk_at dksX2_doubledShare_0 5 rfl rfl)
theorem dX2_doubledShare_6 : decode cX2_doubledShare 6 = .ok (.ifCond .ne 5, 3) := dk_154 0 5 (dk_at dksX2_doubledShare_0 6 rfl rfl)
theorem dX2_doubledShare_9 : decode cX2_doubledShare 9 = .ok (.fconst 0, 1) := dk_11 (dk_at dksX2_doubledShare_0 9 rfl rfl)
theorem dX2_doubledShare_10 : decode cX2_doubledShare 10 = .ok (.freturn, 1) := dk_174 (dk_at dksX2_doubledShare_0 10 rfl rfl)
theorem dX2_doubledShare_11 : decode cX2_doubledShare 11 = .ok (.iconst 0, 1) := dk_3 (dk_at dksX2_doubledShare_0 11 rfl rfl)
theorem dX2_doubledShare_12 : decode cX2_doubledShare 12 = .ok (.istore_n 1, 1) := dk_60 (dk_at dksX2_doubledShare_0 12 rfl rfl)
theorem dX2_doubledShare_13 : decode cX2_doubledShare 13 = .ok (.iconst 0, 1) := dk_3 (dk_at dksX2_doubledShare_0 13 rfl rfl)
theorem dX2_doubledShare_14 : decode cX2_doubledShare 14 = .ok (.istore_n 2, 1) := dk_61 (dk_at dksX2_doubledShare_0 14 rfl rfl)
theorem dX2_doubledShare_15 : decode cX2_doubledShare 15 = .ok (.iload_n 2, 1) := dk_28 (dk_at dksX2_doubledShare_0 15 rfl rfl)
theorem dX2_doubledShare_16 : decode cX2_doubledShare 16 = .ok (.aload_n 0, 1) := dk_42 (dk_at dksX2_doubledShare_0 16 rfl rfl)
theorem dX2_doubledShare_17 : decode cX2_doubledShare 17 = .ok (.getfield 7, 3) := dk_180 0 7 (dk_at dksX2_doubledShare_0 17 rfl rfl)
theorem dX2_doubledShare_20 : decode cX2_doubledShare 20 = .ok (.iconst 0, 1) := dk_3 (dk_at dksX2_doubledShare_0 20 rfl rfl)
theorem dX2_doubledShare_21 : decode cX2_doubledShare 21 = .ok (.iaload, 1) := dk_46 (dk_at dksX2_doubledShare_0 21 rfl rfl)
theorem dX2_doubledShare_22 : decode cX2_doubledShare 22 = .ok (.if_icmp .ge 25, 3) := dk_162 0 25 (dk_at dksX2_doubledShare_1 0 rfl rfl)
theorem dX2_doubledShare_25 : decode cX2_doubledShare 25 = .ok (.iload_n 1, 1) := dk_27 (dk_at dksX2_doubledShare_1 3 rfl rfl)
theorem dX2_doubledShare_26 : decode cX2_doubledShare 26 = .ok (.aload_n 0, 1) := dk_42 (dk_at dksX2_doubledShare_1 4 rfl rfl)
theorem dX2_doubledShare_27 : decode cX2_doubledShare 27 = .ok (.iload_n 2, 1) := dk_28 (dk_at dksX2_doubledShare_1 5 rfl rfl)
theorem dX2_doubledShare_28 : decode cX2_doubledShare 28 = .ok (.invokevirtual 147, 3) := dk_182 0 147 (dk_at dksX2_doubledShare_1 6 rfl rfl)
theorem dX2_doubledShare_31 : decode cX2_doubledShare 31 = .ok (.ifCond .eq 7, 3) := dk_153 0 7 (dk_at dksX2_doubledShare_1 9 rfl rfl)
theorem dX2_doubledShare_34 : decode cX2_doubledShare 34 = .ok (.iconst 1, 1) := dk_4 (dk_at dksX2_doubledShare_1 12 rfl rfl)
theorem dX2_doubledShare_35 : decode cX2_doubledShare 35 = .ok (.goto 4, 3) := dk_167 0 4 (dk_at dksX2_doubledShare_1 13 rfl rfl)
theorem dX2_doubledShare_38 : decode cX2_doubledShare 38 = .ok (.iconst 0, 1) := dk_3 (dk_at dksX2_doubledShare_1 16 rfl rfl)
theorem dX2_doubledShare_39 : decode cX2_doubledShare 39 = .ok (.iadd, 1) := dk_96 (dk_at dksX2_doubledShare_1 17 rfl rfl)
theorem dX2_doubledShare_40 : decode cX2_doubledShare 40 = .ok (.istore_n 1, 1) := dk_60 (dk_at dksX2_doubledShare_1 18 rfl rfl)
theorem dX2_doubledShare_41 : decode cX2_doubledShare 41 = .ok (.iinc 2 1, 3) := dk_132 2 1 (dk_at dksX2_doubledShare_1 19 rfl rfl)
theorem dX2_doubledShare_44 : decode cX2_doubledShare 44 = .ok (.goto (-29), 3) := dk_167 255 227 (dk_at dksX2_doubledShare_2 0 rfl rfl)
theorem dX2_doubledShare_47 : decode cX2_doubledShare 47 = .ok (.iload_n 1, 1) := dk_27 (dk_at dksX2_doubledShare_2 3 rfl rfl)
theorem dX2_doubledShare_48 : decode cX2_doubledShare 48 = .ok (.i2f, 1) := dk_134 (dk_at dksX2_doubledShare_2 4 rfl rfl)
theorem dX2_doubledShare_49 : decode cX2_doubledShare 49 = .ok (.aload_n 0, 1) := dk_42 (dk_at dksX2_doubledShare_2 5 rfl rfl)
theorem dX2_doubledShare_50 : decode cX2_doubledShare 50 = .ok (.getfield 7, 3) := dk_180 0 7 (dk_at dksX2_doubledShare_2 6 rfl rfl)
theorem dX2_doubledShare_53 : decode cX2_doubledShare 53 = .ok (.iconst 0, 1) := dk_3 (dk_at dksX2_doubledShare_2 9 rfl rfl)
theorem dX2_doubledShare_54 : decode cX2_doubledShare 54 = .ok (.iaload, 1) := dk_46 (dk_at dksX2_doubledShare_2 10 rfl rfl)
theorem dX2_doubledShare_55 : decode cX2_doubledShare 55 = .ok (.i2f, 1) := dk_134 (dk_at dksX2_doubledShare_2 11 rfl rfl)
theorem dX2_doubledShare_56 : decode cX2_doubledShare 56 = .ok (.fdiv, 1) := dk_110 (dk_at dksX2_doubledShare_2 12 rfl rfl)
theorem dX2_doubledShare_57 : decode cX2_doubledShare 57 = .ok (.freturn, 1) := dk_174 (dk_at dksX2_doubledShare_2 13 rfl rfl)
abbrev cX2_undo : ByteArray := prog_11_method_75_code
def yX2_undo : MethodName := ⟨RX2, "undo", "()I"⟩
def dkwX2_undo_1 : List UInt8 := [180, 0, 13, 17, 0, 146, 42, 180, 0, 48, 104, 42, 180, 0, 7, 3, 184, 0, 51, 42, 180, 0, 48, 172]
abbrev dktX2_undo_1 : List UInt8 := dkwX2_undo_1 ++ []
def dkwX2_undo_0 : List UInt8 := [42, 180, 0, 48, 154, 0, 7, 17, 252, 9, 172, 42, 89, 180, 0, 48, 4, 100, 181, 0, 48, 42]
abbrev dktX2_undo_0 : List UInt8 := dkwX2_undo_0 ++ dktX2_undo_1
theorem dksX2_undo_0 : cX2_undo.data.toList.drop 0 = dktX2_undo_0 := by decide +kernel
theorem dksX2_undo_1 : cX2_undo.data.toList.drop 22 = dktX2_undo_1 := dk_seg dksX2_undo_0 22 rfl rfl
theorem dX2_undo_0 : decode cX2_undo 0 = .ok (.aload_n 0, 1) := dk_42 (dk_at dksX2_undo_0 0 rfl rfl)
theorem dX2_undo_1 : decode cX2_undo 1 = .ok (.getfield 48, 3) := dk_180 0 48 (dk_at dksX2_undo_0 1 rfl rfl)
theorem dX2_undo_4 : decode cX2_undo 4 = .ok (.ifCond .ne 7, 3) := dk_154 0 7 (dk_at dksX2_undo_0 4 rfl rfl)
theorem dX2_undo_7 : decode cX2_undo 7 = .ok (.sipush (-1015), 3) := dk_17 252 9 (dk_at dksX2_undo_0 7 rfl rfl)
theorem dX2_undo_10 : decode cX2_undo 10 = .ok (.ireturn, 1) := dk_172 (dk_at dksX2_undo_0 10 rfl rfl)
theorem dX2_undo_11 : decode cX2_undo 11 = .ok (.aload_n 0, 1) := dk_42 (dk_at dksX2_undo_0 11 rfl rfl)
theorem dX2_undo_12 : decode cX2_undo 12 = .ok (.dup, 1) := dk_89 (dk_at dksX2_undo_0 12 rfl rfl)
theorem dX2_undo_13 : decode cX2_undo 13 = .ok (.getfield 48, 3) := dk_180 0 48 (dk_at dksX2_undo_0 13 rfl rfl)
theorem dX2_undo_16 : decode cX2_undo 16 = .ok (.iconst 1, 1) := dk_4 (dk_at dksX2_undo_0 16 rfl rfl)
theorem dX2_undo_17 : decode cX2_undo 17 = .ok (.isub, 1) := dk_100 (dk_at dksX2_undo_0 17 rfl rfl)
theorem dX2_undo_18 : decode cX2_undo 18 = .ok (.putfield 48, 3) := dk_181 0 48 (dk_at dksX2_undo_0 18 rfl rfl)
theorem dX2_undo_21 : decode cX2_undo 21 = .ok (.aload_n 0, 1) := dk_42 (dk_at dksX2_undo_0 21 rfl rfl)
theorem dX2_undo_22 : decode cX2_undo 22 = .ok (.getfield 13, 3) := dk_180 0 13 (dk_at dksX2_undo_1 0 rfl rfl)
theorem dX2_undo_25 : decode cX2_undo 25 = .ok (.sipush 146, 3) := dk_17 0 146 (dk_at dksX2_undo_1 3 rfl rfl)
theorem dX2_undo_28 : decode cX2_undo 28 = .ok (.aload_n 0, 1) := dk_42 (dk_at dksX2_undo_1 6 rfl rfl)
theorem dX2_undo_29 : decode cX2_undo 29 = .ok (.getfield 48, 3) := dk_180 0 48 (dk_at dksX2_undo_1 7 rfl rfl)
theorem dX2_undo_32 : decode cX2_undo 32 = .ok (.imul, 1) := dk_104 (dk_at dksX2_undo_1 10 rfl rfl)
theorem dX2_undo_33 : decode cX2_undo 33 = .ok (.aload_n 0, 1) := dk_42 (dk_at dksX2_undo_1 11 rfl rfl)
theorem dX2_undo_34 : decode cX2_undo 34 = .ok (.getfield 7, 3) := dk_180 0 7 (dk_at dksX2_undo_1 12 rfl rfl)
theorem dX2_undo_37 : decode cX2_undo 37 = .ok (.iconst 0, 1) := dk_3 (dk_at dksX2_undo_1 15 rfl rfl)
theorem dX2_undo_38 : decode cX2_undo 38 = .ok (.invokestatic 51, 3) := dk_184 0 51 (dk_at dksX2_undo_1 16 rfl rfl)
theorem dX2_undo_41 : decode cX2_undo 41 = .ok (.aload_n 0, 1) := dk_42 (dk_at dksX2_undo_1 19 rfl rfl)
theorem dX2_undo_42 : decode cX2_undo 42 = .ok (.getfield 48, 3) := dk_180 0 48 (dk_at dksX2_undo_1 20 rfl rfl)
theorem dX2_undo_45 : decode cX2_undo 45 = .ok (.ireturn, 1) := dk_172 (dk_at dksX2_undo_1 23 rfl rfl)
abbrev cX2_save : ByteArray := prog_11_method_76_code
def yX2_save : MethodName := ⟨RX2, "save", "()I"⟩
def dkwX2_save_1 : List UInt8 := [172]
abbrev dktX2_save_1 : List UInt8 := dkwX2_save_1 ++ []
def dkwX2_save_0 : List UInt8 := [42, 4, 181, 1, 8, 42, 180, 0, 7, 3, 42, 180, 0, 16, 3, 184, 0, 51, 42, 180, 0, 7, 3, 46]
abbrev dktX2_save_0 : List UInt8 := dkwX2_save_0 ++ dktX2_save_1
theorem dksX2_save_0 : cX2_save.data.toList.drop 0 = dktX2_save_0 := by decide +kernel
theorem dksX2_save_1 : cX2_save.data.toList.drop 24 = dktX2_save_1 := dk_seg dksX2_save_0 24 rfl rfl
theorem dX2_save_0 : decode cX2_save 0 = .ok (.aload_n 0, 1) := dk_42 (dk_at dksX2_save_0 0 rfl rfl)
theorem dX2_save_1 : decode cX2_save 1 = .ok (.iconst 1, 1) := dk_4 (dk_at dksX2_save_0 1 rfl rfl)
theorem dX2_save_2 : decode cX2_save 2 = .ok (.putfield 264, 3) := dk_181 1 8 (dk_at dksX2_save_0 2 rfl rfl)
theorem dX2_save_5 : decode cX2_save 5 = .ok (.aload_n 0, 1) := dk_42 (dk_at dksX2_save_0 5 rfl rfl)
theorem dX2_save_6 : decode cX2_save 6 = .ok (.getfield 7, 3) := dk_180 0 7 (dk_at dksX2_save_0 6 rfl rfl)
theorem dX2_save_9 : decode cX2_save 9 = .ok (.iconst 0, 1) := dk_3 (dk_at dksX2_save_0 9 rfl rfl)
theorem dX2_save_10 : decode cX2_save 10 = .ok (.aload_n 0, 1) := dk_42 (dk_at dksX2_save_0 10 rfl rfl)
theorem dX2_save_11 : decode cX2_save 11 = .ok (.getfield 16, 3) := dk_180 0 16 (dk_at dksX2_save_0 11 rfl rfl)
theorem dX2_save_14 : decode cX2_save 14 = .ok (.iconst 0, 1) := dk_3 (dk_at dksX2_save_0 14 rfl rfl)
theorem dX2_save_15 : decode cX2_save 15 = .ok (.invokestatic 51, 3) := dk_184 0 51 (dk_at dksX2_save_0 15 rfl rfl)
theorem dX2_save_18 : decode cX2_save 18 = .ok (.aload_n 0, 1) := dk_42 (dk_at dksX2_save_0 18 rfl rfl)
theorem dX2_save_19 : decode cX2_save 19 = .ok (.getfield 7, 3) := dk_180 0 7 (dk_at dksX2_save_0 19 rfl rfl)
theorem dX2_save_22 : decode cX2_save 22 = .ok (.iconst 0, 1) := dk_3 (dk_at dksX2_save_0 22 rfl rfl)
theorem dX2_save_23 : decode cX2_save 23 = .ok (.iaload, 1) := dk_46 (dk_at dksX2_save_0 23 rfl rfl)
theorem dX2_save_24 : decode cX2_save 24 = .ok (.ireturn, 1) := dk_172 (dk_at dksX2_save_1 0 rfl rfl)
abbrev cX2_restore : ByteArray := prog_11_method_77_code
def yX2_restore : MethodName := ⟨RX2, "restore", "()I"⟩
def dkwX2_restore_1 : List UInt8 := [42, 3, 181, 0, 48, 42, 180, 0, 7, 3, 46, 172]
abbrev dktX2_restore_1 : List UInt8 := dkwX2_restore_1 ++ []
def dkwX2_restore_0 : List UInt8 := [42, 180, 1, 8, 154, 0, 7, 17, 252, 9, 172, 42, 180, 0, 16, 3, 42, 180, 0, 7, 3, 184, 0, 51]
abbrev dktX2_restore_0 : List UInt8 := dkwX2_restore_0 ++ dktX2_restore_1
theorem dksX2_restore_0 : cX2_restore.data.toList.drop 0 = dktX2_restore_0 := by decide +kernel
theorem dksX2_restore_1 : cX2_restore.data.toList.drop 24 = dktX2_restore_1 := dk_seg dksX2_restore_0 24 rfl rfl
theorem dX2_restore_0 : decode cX2_restore 0 = .ok (.aload_n 0, 1) := dk_42 (dk_at dksX2_restore_0 0 rfl rfl)
theorem dX2_restore_1 : decode cX2_restore 1 = .ok (.getfield 264, 3) := dk_180 1 8 (dk_at dksX2_restore_0 1 rfl rfl)
theorem dX2_restore_4 : decode cX2_restore 4 = .ok (.ifCond .ne 7, 3) := dk_154 0 7 (dk_at dksX2_restore_0 4 rfl rfl)
theorem dX2_restore_7 : decode cX2_restore 7 = .ok (.sipush (-1015), 3) := dk_17 252 9 (dk_at dksX2_restore_0 7 rfl rfl)
theorem dX2_restore_10 : decode cX2_restore 10 = .ok (.ireturn, 1) := dk_172 (dk_at dksX2_restore_0 10 rfl rfl)
theorem dX2_restore_11 : decode cX2_restore 11 = .ok (.aload_n 0, 1) := dk_42 (dk_at dksX2_restore_0 11 rfl rfl)
theorem dX2_restore_12 : decode cX2_restore 12 = .ok (.getfield 16, 3) := dk_180 0 16 (dk_at dksX2_restore_0 12 rfl rfl)
theorem dX2_restore_15 : decode cX2_restore 15 = .ok (.iconst 0, 1) := dk_3 (dk_at dksX2_restore_0 15 rfl rfl)
theorem dX2_restore_16 : decode cX2_restore 16 = .ok (.aload_n 0, 1) := dk_42 (dk_at dksX2_restore_0 16 rfl rfl)
theorem dX2_restore_17 : decode cX2_restore 17 = .ok (.getfield 7, 3) := dk_180 0 7 (dk_at dksX2_restore_0 17 rfl rfl)
theorem dX2_restore_20 : decode cX2_restore 20 = .ok (.iconst 0, 1) := dk_3 (dk_at dksX2_restore_0 20 rfl rfl)
theorem dX2_restore_21 : decode cX2_restore 21 = .ok (.invokestatic 51, 3) := dk_184 0 51 (dk_at dksX2_restore_0 21 rfl rfl)
theorem dX2_restore_24 : decode cX2_restore 24 = .ok (.aload_n 0, 1) := dk_42 (dk_at dksX2_restore_1 0 rfl rfl)
theorem dX2_restore_25 : decode cX2_restore 25 = .ok (.iconst 0, 1) := dk_3 (dk_at dksX2_restore_1 1 rfl rfl)
theorem dX2_restore_26 : decode cX2_restore 26 = .ok (.putfield 48, 3) := dk_181 0 48 (dk_at dksX2_restore_1 2 rfl rfl)
theorem dX2_restore_29 : decode cX2_restore 29 = .ok (.aload_n 0, 1) := dk_42 (dk_at dksX2_restore_1 5 rfl rfl)
theorem dX2_restore_30 : decode cX2_restore 30 = .ok (.getfield 7, 3) := dk_180 0 7 (dk_at dksX2_restore_1 6 rfl rfl)
theorem dX2_restore_33 : decode cX2_restore 33 = .ok (.iconst 0, 1) := dk_3 (dk_at dksX2_restore_1 9 rfl rfl)
theorem dX2_restore_34 : decode cX2_restore 34 = .ok (.iaload, 1) := dk_46 (dk_at dksX2_restore_1 10 rfl rfl)
theorem dX2_restore_35 : decode cX2_restore 35 = .ok (.ireturn, 1) := dk_172 (dk_at dksX2_restore_1 11 rfl rfl)
theorem q98 : (Jvm.Cond.initialized "ParityMazeModel") ∈ lw_all := lw_g (lw_at lw_m1 11 rfl) rfl
theorem q465 : (Jvm.Cond.selects "ParityMazeModel" ({ cls := "java/lang/Object", name := "getClass", desc := "()Ljava/lang/Class;" } : Jvm.MethodName) ({ cls := "java/lang/Object", name := "getClass", desc := "()Ljava/lang/Class;" } : Jvm.MethodName)) ∈ lw_all := lw_g (lw_at lw_m2 138 rfl) rfl
theorem q995 : (Jvm.Cond.selects "ParityMazeModel" ({ cls := "java/lang/Object", name := "hashCode", desc := "()I" } : Jvm.MethodName) ({ cls := "java/lang/Object", name := "hashCode", desc := "()I" } : Jvm.MethodName)) ∈ lw_all := lw_g (lw_at lw_m4 188 rfl) rfl
theorem q1419 : (Jvm.Cond.selects "ParityMazeModel" ({ cls := "java/lang/Object", name := "equals", desc := "(Ljava/lang/Object;)Z" } : Jvm.MethodName) ({ cls := "java/lang/Object", name := "equals", desc := "(Ljava/lang/Object;)Z" } : Jvm.MethodName)) ∈ lw_all := lw_g (lw_at lw_m6 132 rfl) rfl
theorem q2483 : (Jvm.Cond.instantiable "ParityMazeModel" (18 : Nat)) ∈ lw_all := lw_g (lw_at lw_m10 236 rfl) rfl
theorem q2485 : (Jvm.Cond.instanceMethod ({ cls := "ParityMazeModel", name := "<init>", desc := "()V" } : Jvm.MethodName)) ∈ lw_all := lw_g (lw_at lw_m10 238 rfl) rfl
theorem q2486 : (Jvm.Cond.code ({ cls := "ParityMazeModel", name := "<init>", desc := "()V" } : Jvm.MethodName) prog_11_method_1_code (1 : Nat) (Option.none : Option Jvm.ClassFile.FieldType)) ∈ lw_all := lw_g (lw_at lw_m10 239 rfl) rfl
theorem q2487 : (Jvm.Cond.methodLink "ParityMazeModel" (1 : Nat) ({ cls := "java/lang/Object", name := "<init>", desc := "()V" } : Jvm.MethodName)) ∈ lw_all := lw_g (lw_at lw_m11 0 rfl) rfl
theorem q2488 : (Jvm.Cond.fieldLink "ParityMazeModel" (7 : Nat) "ParityMazeModel" "g" "[I") ∈ lw_all := lw_g (lw_at lw_m11 1 rfl) rfl
theorem q2489 : (Jvm.Cond.fieldLink "ParityMazeModel" (13 : Nat) "ParityMazeModel" "kept" "[I") ∈ lw_all := lw_g (lw_at lw_m11 2 rfl) rfl
theorem q2490 : (Jvm.Cond.fieldLink "ParityMazeModel" (16 : Nat) "ParityMazeModel" "saved" "[I") ∈ lw_all := lw_g (lw_at lw_m11 3 rfl) rfl
theorem q2491 : (Jvm.Cond.fieldLink "ParityMazeModel" (19 : Nat) "ParityMazeModel" "before" "[I") ∈ lw_all := lw_g (lw_at lw_m11 4 rfl) rfl
theorem q2492 : (Jvm.Cond.fieldLink "ParityMazeModel" (264 : Nat) "ParityMazeModel" "isSaved" "Z") ∈ lw_all := lw_g (lw_at lw_m11 5 rfl) rfl
theorem q2493 : (Jvm.Cond.fieldLink "ParityMazeModel" (48 : Nat) "ParityMazeModel" "changes" "I") ∈ lw_all := lw_g (lw_at lw_m11 6 rfl) rfl
theorem q2494 : (Jvm.Cond.fieldLink "ParityMazeModel" (44 : Nat) "ParityMazeModel" "isWithin" "Z") ∈ lw_all := lw_g (lw_at lw_m11 7 rfl) rfl
theorem q2495 : (Jvm.Cond.fieldLink "ParityMazeModel" (37 : Nat) "ParityMazeModel" "why" "I") ∈ lw_all := lw_g (lw_at lw_m11 8 rfl) rfl
theorem q2496 : (Jvm.Cond.fieldLink "ParityMazeModel" (41 : Nat) "ParityMazeModel" "detail" "I") ∈ lw_all := lw_g (lw_at lw_m11 9 rfl) rfl
theorem q2497 : (Jvm.Cond.fieldLink "ParityMazeModel" (22 : Nat) "ParityMazeModel" "input" "[I") ∈ lw_all := lw_g (lw_at lw_m11 10 rfl) rfl
theorem q2498 : (Jvm.Cond.fieldLink "ParityMazeModel" (150 : Nat) "ParityMazeModel" "length" "I") ∈ lw_all := lw_g (lw_at lw_m11 11 rfl) rfl
theorem q2499 : (Jvm.Cond.fieldLink "ParityMazeModel" (25 : Nat) "ParityMazeModel" "signs" "[I") ∈ lw_all := lw_g (lw_at lw_m11 12 rfl) rfl
theorem q2500 : (Jvm.Cond.fieldLink "ParityMazeModel" (240 : Nat) "ParityMazeModel" "signMany" "I") ∈ lw_all := lw_g (lw_at lw_m11 13 rfl) rfl
theorem q2501 : (Jvm.Cond.fieldLink "ParityMazeModel" (28 : Nat) "ParityMazeModel" "steps" "[I") ∈ lw_all := lw_g (lw_at lw_m11 14 rfl) rfl
theorem q2502 : (Jvm.Cond.fieldLink "ParityMazeModel" (31 : Nat) "ParityMazeModel" "onward" "[I") ∈ lw_all := lw_g (lw_at lw_m11 15 rfl) rfl
theorem q2503 : (Jvm.Cond.fieldLink "ParityMazeModel" (153 : Nat) "ParityMazeModel" "at" "I") ∈ lw_all := lw_g (lw_at lw_m11 16 rfl) rfl
theorem q2504 : (Jvm.Cond.fieldLink "ParityMazeModel" (34 : Nat) "ParityMazeModel" "told" "[I") ∈ lw_all := lw_g (lw_at lw_m11 17 rfl) rfl
theorem q2505 : (Jvm.Cond.fieldLink "ParityMazeModel" (170 : Nat) "ParityMazeModel" "toldMany" "I") ∈ lw_all := lw_g (lw_at lw_m11 18 rfl) rfl
theorem q2506 : (Jvm.Cond.laysFinal "ParityMazeModel" "ParityMazeModel" "g" "[I") ∈ lw_all := lw_g (lw_at lw_m11 19 rfl) rfl
theorem q2507 : (Jvm.Cond.soleField "ParityMazeModel" "g") ∈ lw_all := lw_g (lw_at lw_m11 20 rfl) rfl
theorem q2508 : (Jvm.Cond.laysFinal "ParityMazeModel" "ParityMazeModel" "kept" "[I") ∈ lw_all := lw_g (lw_at lw_m11 21 rfl) rfl
theorem q2509 : (Jvm.Cond.soleField "ParityMazeModel" "kept") ∈ lw_all := lw_g (lw_at lw_m11 22 rfl) rfl
theorem q2510 : (Jvm.Cond.laysFinal "ParityMazeModel" "ParityMazeModel" "saved" "[I") ∈ lw_all := lw_g (lw_at lw_m11 23 rfl) rfl
theorem q2511 : (Jvm.Cond.soleField "ParityMazeModel" "saved") ∈ lw_all := lw_g (lw_at lw_m11 24 rfl) rfl
theorem q2512 : (Jvm.Cond.laysFinal "ParityMazeModel" "ParityMazeModel" "before" "[I") ∈ lw_all := lw_g (lw_at lw_m11 25 rfl) rfl
theorem q2513 : (Jvm.Cond.soleField "ParityMazeModel" "before") ∈ lw_all := lw_g (lw_at lw_m11 26 rfl) rfl
theorem q2514 : (Jvm.Cond.lays "ParityMazeModel" "ParityMazeModel" "isSaved" "Z") ∈ lw_all := lw_g (lw_at lw_m11 27 rfl) rfl
theorem q2515 : (Jvm.Cond.soleField "ParityMazeModel" "isSaved") ∈ lw_all := lw_g (lw_at lw_m11 28 rfl) rfl
theorem q2516 : (Jvm.Cond.lays "ParityMazeModel" "ParityMazeModel" "changes" "I") ∈ lw_all := lw_g (lw_at lw_m11 29 rfl) rfl
theorem q2517 : (Jvm.Cond.soleField "ParityMazeModel" "changes") ∈ lw_all := lw_g (lw_at lw_m11 30 rfl) rfl
theorem q2518 : (Jvm.Cond.lays "ParityMazeModel" "ParityMazeModel" "isWithin" "Z") ∈ lw_all := lw_g (lw_at lw_m11 31 rfl) rfl
theorem q2519 : (Jvm.Cond.soleField "ParityMazeModel" "isWithin") ∈ lw_all := lw_g (lw_at lw_m11 32 rfl) rfl
theorem q2520 : (Jvm.Cond.lays "ParityMazeModel" "ParityMazeModel" "why" "I") ∈ lw_all := lw_g (lw_at lw_m11 33 rfl) rfl
theorem q2521 : (Jvm.Cond.soleField "ParityMazeModel" "why") ∈ lw_all := lw_g (lw_at lw_m11 34 rfl) rfl
theorem q2522 : (Jvm.Cond.lays "ParityMazeModel" "ParityMazeModel" "detail" "I") ∈ lw_all := lw_g (lw_at lw_m11 35 rfl) rfl
theorem q2523 : (Jvm.Cond.soleField "ParityMazeModel" "detail") ∈ lw_all := lw_g (lw_at lw_m11 36 rfl) rfl
theorem q2524 : (Jvm.Cond.laysFinal "ParityMazeModel" "ParityMazeModel" "input" "[I") ∈ lw_all := lw_g (lw_at lw_m11 37 rfl) rfl
theorem q2525 : (Jvm.Cond.soleField "ParityMazeModel" "input") ∈ lw_all := lw_g (lw_at lw_m11 38 rfl) rfl
theorem q2526 : (Jvm.Cond.lays "ParityMazeModel" "ParityMazeModel" "length" "I") ∈ lw_all := lw_g (lw_at lw_m11 39 rfl) rfl
theorem q2527 : (Jvm.Cond.soleField "ParityMazeModel" "length") ∈ lw_all := lw_g (lw_at lw_m11 40 rfl) rfl
theorem q2528 : (Jvm.Cond.laysFinal "ParityMazeModel" "ParityMazeModel" "signs" "[I") ∈ lw_all := lw_g (lw_at lw_m11 41 rfl) rfl
theorem q2529 : (Jvm.Cond.soleField "ParityMazeModel" "signs") ∈ lw_all := lw_g (lw_at lw_m11 42 rfl) rfl
theorem q2530 : (Jvm.Cond.lays "ParityMazeModel" "ParityMazeModel" "signMany" "I") ∈ lw_all := lw_g (lw_at lw_m11 43 rfl) rfl
theorem q2531 : (Jvm.Cond.soleField "ParityMazeModel" "signMany") ∈ lw_all := lw_g (lw_at lw_m11 44 rfl) rfl
theorem q2532 : (Jvm.Cond.laysFinal "ParityMazeModel" "ParityMazeModel" "steps" "[I") ∈ lw_all := lw_g (lw_at lw_m11 45 rfl) rfl
theorem q2533 : (Jvm.Cond.soleField "ParityMazeModel" "steps") ∈ lw_all := lw_g (lw_at lw_m11 46 rfl) rfl
theorem q2534 : (Jvm.Cond.laysFinal "ParityMazeModel" "ParityMazeModel" "onward" "[I") ∈ lw_all := lw_g (lw_at lw_m11 47 rfl) rfl
theorem q2535 : (Jvm.Cond.soleField "ParityMazeModel" "onward") ∈ lw_all := lw_g (lw_at lw_m11 48 rfl) rfl
theorem q2536 : (Jvm.Cond.lays "ParityMazeModel" "ParityMazeModel" "at" "I") ∈ lw_all := lw_g (lw_at lw_m11 49 rfl) rfl
theorem q2537 : (Jvm.Cond.soleField "ParityMazeModel" "at") ∈ lw_all := lw_g (lw_at lw_m11 50 rfl) rfl
theorem q2538 : (Jvm.Cond.laysFinal "ParityMazeModel" "ParityMazeModel" "told" "[I") ∈ lw_all := lw_g (lw_at lw_m11 51 rfl) rfl
theorem q2539 : (Jvm.Cond.soleField "ParityMazeModel" "told") ∈ lw_all := lw_g (lw_at lw_m11 52 rfl) rfl
theorem q2540 : (Jvm.Cond.lays "ParityMazeModel" "ParityMazeModel" "toldMany" "I") ∈ lw_all := lw_g (lw_at lw_m11 53 rfl) rfl
theorem q2541 : (Jvm.Cond.soleField "ParityMazeModel" "toldMany") ∈ lw_all := lw_g (lw_at lw_m11 54 rfl) rfl
theorem q2542 : (Jvm.Cond.superclass "ParityMazeModel" "java/lang/Object") ∈ lw_all := lw_g (lw_at lw_m11 55 rfl) rfl
theorem q2544 : (Jvm.Cond.instanceMethod ({ cls := "ParityMazeModel", name := "room", desc := "(I)I" } : Jvm.MethodName)) ∈ lw_all := lw_g (lw_at lw_m11 57 rfl) rfl
theorem q2545 : (Jvm.Cond.selects "ParityMazeModel" ({ cls := "ParityMazeModel", name := "room", desc := "(I)I" } : Jvm.MethodName) ({ cls := "ParityMazeModel", name := "room", desc := "(I)I" } : Jvm.MethodName)) ∈ lw_all := lw_g (lw_at lw_m11 58 rfl) rfl
theorem q2546 : (Jvm.Cond.code ({ cls := "ParityMazeModel", name := "room", desc := "(I)I" } : Jvm.MethodName) prog_11_method_11_code (2 : Nat) (Option.some Jvm.ClassFile.FieldType.int)) ∈ lw_all := lw_g (lw_at lw_m11 59 rfl) rfl
theorem q2547 : (Jvm.Cond.methodLink "ParityMazeModel" (55 : Nat) ({ cls := "ParityMazeModel", name := "in", desc := "(III)Z" } : Jvm.MethodName)) ∈ lw_all := lw_g (lw_at lw_m11 60 rfl) rfl
theorem q2548 : (Jvm.Cond.static ({ cls := "ParityMazeModel", name := "in", desc := "(III)Z" } : Jvm.MethodName)) ∈ lw_all := lw_g (lw_at lw_m11 61 rfl) rfl
theorem q2549 : (Jvm.Cond.code ({ cls := "ParityMazeModel", name := "in", desc := "(III)Z" } : Jvm.MethodName) prog_11_method_3_code (3 : Nat) (Option.some Jvm.ClassFile.FieldType.boolean)) ∈ lw_all := lw_g (lw_at lw_m11 62 rfl) rfl
theorem q2550 : (Jvm.Cond.methodLink "ParityMazeModel" (59 : Nat) ({ cls := "ParityMazeModel", name := "refuses", desc := "(II)I" } : Jvm.MethodName)) ∈ lw_all := lw_g (lw_at lw_m11 63 rfl) rfl
theorem q2551 : (Jvm.Cond.privateMethod ({ cls := "ParityMazeModel", name := "refuses", desc := "(II)I" } : Jvm.MethodName)) ∈ lw_tbl := lw_at lw_m11 64 rfl
theorem q2552 : (Jvm.Cond.instanceMethod ({ cls := "ParityMazeModel", name := "refuses", desc := "(II)I" } : Jvm.MethodName)) ∈ lw_all := lw_g (lw_at lw_m11 65 rfl) rfl
theorem q2553 : (Jvm.Cond.code ({ cls := "ParityMazeModel", name := "refuses", desc := "(II)I" } : Jvm.MethodName) prog_11_method_2_code (3 : Nat) (Option.some Jvm.ClassFile.FieldType.int)) ∈ lw_all := lw_g (lw_at lw_m11 66 rfl) rfl
theorem q2554 : (Jvm.Cond.methodLink "ParityMazeModel" (63 : Nat) ({ cls := "ParityMazeModel", name := "keeps", desc := "([I)V" } : Jvm.MethodName)) ∈ lw_all := lw_g (lw_at lw_m11 67 rfl) rfl
theorem q2555 : (Jvm.Cond.privateMethod ({ cls := "ParityMazeModel", name := "keeps", desc := "([I)V" } : Jvm.MethodName)) ∈ lw_tbl := lw_at lw_m11 68 rfl
theorem q2556 : (Jvm.Cond.instanceMethod ({ cls := "ParityMazeModel", name := "keeps", desc := "([I)V" } : Jvm.MethodName)) ∈ lw_all := lw_g (lw_at lw_m11 69 rfl) rfl
theorem q2557 : (Jvm.Cond.code ({ cls := "ParityMazeModel", name := "keeps", desc := "([I)V" } : Jvm.MethodName) prog_11_method_5_code (3 : Nat) (Option.none : Option Jvm.ClassFile.FieldType)) ∈ lw_all := lw_g (lw_at lw_m11 70 rfl) rfl
theorem q2558 : (Jvm.Cond.methodLink "ParityMazeModel" (51 : Nat) ({ cls := "ParityMazeModel", name := "copies", desc := "([II[II)V" } : Jvm.MethodName)) ∈ lw_all := lw_g (lw_at lw_m11 71 rfl) rfl
theorem q2559 : (Jvm.Cond.static ({ cls := "ParityMazeModel", name := "copies", desc := "([II[II)V" } : Jvm.MethodName)) ∈ lw_all := lw_g (lw_at lw_m11 72 rfl) rfl
theorem q2560 : (Jvm.Cond.code ({ cls := "ParityMazeModel", name := "copies", desc := "([II[II)V" } : Jvm.MethodName) prog_11_method_4_code (5 : Nat) (Option.none : Option Jvm.ClassFile.FieldType)) ∈ lw_all := lw_g (lw_at lw_m11 73 rfl) rfl
theorem q2562 : (Jvm.Cond.instanceMethod ({ cls := "ParityMazeModel", name := "door", desc := "(IIII)I" } : Jvm.MethodName)) ∈ lw_all := lw_g (lw_at lw_m11 75 rfl) rfl
theorem q2563 : (Jvm.Cond.selects "ParityMazeModel" ({ cls := "ParityMazeModel", name := "door", desc := "(IIII)I" } : Jvm.MethodName) ({ cls := "ParityMazeModel", name := "door", desc := "(IIII)I" } : Jvm.MethodName)) ∈ lw_all := lw_g (lw_at lw_m11 76 rfl) rfl
theorem q2564 : (Jvm.Cond.code ({ cls := "ParityMazeModel", name := "door", desc := "(IIII)I" } : Jvm.MethodName) prog_11_method_15_code (6 : Nat) (Option.some Jvm.ClassFile.FieldType.int)) ∈ lw_all := lw_g (lw_at lw_m11 77 rfl) rfl
theorem q2565 : (Jvm.Cond.methodLink "ParityMazeModel" (76 : Nat) ({ cls := "ParityMazeModel", name := "isRoom", desc := "(I)Z" } : Jvm.MethodName)) ∈ lw_all := lw_g (lw_at lw_m11 78 rfl) rfl
theorem q2566 : (Jvm.Cond.privateMethod ({ cls := "ParityMazeModel", name := "isRoom", desc := "(I)Z" } : Jvm.MethodName)) ∈ lw_tbl := lw_at lw_m11 79 rfl
theorem q2567 : (Jvm.Cond.instanceMethod ({ cls := "ParityMazeModel", name := "isRoom", desc := "(I)Z" } : Jvm.MethodName)) ∈ lw_all := lw_g (lw_at lw_m11 80 rfl) rfl
theorem q2568 : (Jvm.Cond.code ({ cls := "ParityMazeModel", name := "isRoom", desc := "(I)Z" } : Jvm.MethodName) prog_11_method_6_code (2 : Nat) (Option.some Jvm.ClassFile.FieldType.boolean)) ∈ lw_all := lw_g (lw_at lw_m11 81 rfl) rfl
theorem q2569 : (Jvm.Cond.methodLink "ParityMazeModel" (80 : Nat) ({ cls := "ParityMazeModel", name := "between", desc := "(II)I" } : Jvm.MethodName)) ∈ lw_all := lw_g (lw_at lw_m11 82 rfl) rfl
theorem q2570 : (Jvm.Cond.privateMethod ({ cls := "ParityMazeModel", name := "between", desc := "(II)I" } : Jvm.MethodName)) ∈ lw_tbl := lw_at lw_m11 83 rfl
theorem q2571 : (Jvm.Cond.instanceMethod ({ cls := "ParityMazeModel", name := "between", desc := "(II)I" } : Jvm.MethodName)) ∈ lw_all := lw_g (lw_at lw_m11 84 rfl) rfl
theorem q2572 : (Jvm.Cond.code ({ cls := "ParityMazeModel", name := "between", desc := "(II)I" } : Jvm.MethodName) prog_11_method_14_code (4 : Nat) (Option.some Jvm.ClassFile.FieldType.int)) ∈ lw_all := lw_g (lw_at lw_m11 85 rfl) rfl
theorem q2573 : (Jvm.Cond.methodLink "ParityMazeModel" (67 : Nat) ({ cls := "ParityMazeModel", name := "of", desc := "(II)I" } : Jvm.MethodName)) ∈ lw_all := lw_g (lw_at lw_m11 86 rfl) rfl
theorem q2574 : (Jvm.Cond.privateMethod ({ cls := "ParityMazeModel", name := "of", desc := "(II)I" } : Jvm.MethodName)) ∈ lw_tbl := lw_at lw_m11 87 rfl
theorem q2575 : (Jvm.Cond.instanceMethod ({ cls := "ParityMazeModel", name := "of", desc := "(II)I" } : Jvm.MethodName)) ∈ lw_all := lw_g (lw_at lw_m11 88 rfl) rfl
theorem q2576 : (Jvm.Cond.code ({ cls := "ParityMazeModel", name := "of", desc := "(II)I" } : Jvm.MethodName) prog_11_method_10_code (3 : Nat) (Option.some Jvm.ClassFile.FieldType.int)) ∈ lw_all := lw_g (lw_at lw_m11 89 rfl) rfl
theorem q2577 : (Jvm.Cond.methodLink "ParityMazeModel" (70 : Nat) ({ cls := "ParityMazeModel", name := "least", desc := "(II)I" } : Jvm.MethodName)) ∈ lw_all := lw_g (lw_at lw_m11 90 rfl) rfl
theorem q2578 : (Jvm.Cond.static ({ cls := "ParityMazeModel", name := "least", desc := "(II)I" } : Jvm.MethodName)) ∈ lw_all := lw_g (lw_at lw_m11 91 rfl) rfl
theorem q2579 : (Jvm.Cond.code ({ cls := "ParityMazeModel", name := "least", desc := "(II)I" } : Jvm.MethodName) prog_11_method_12_code (2 : Nat) (Option.some Jvm.ClassFile.FieldType.int)) ∈ lw_all := lw_g (lw_at lw_m11 92 rfl) rfl
theorem q2580 : (Jvm.Cond.methodLink "ParityMazeModel" (73 : Nat) ({ cls := "ParityMazeModel", name := "most", desc := "(II)I" } : Jvm.MethodName)) ∈ lw_all := lw_g (lw_at lw_m11 93 rfl) rfl
theorem q2581 : (Jvm.Cond.static ({ cls := "ParityMazeModel", name := "most", desc := "(II)I" } : Jvm.MethodName)) ∈ lw_all := lw_g (lw_at lw_m11 94 rfl) rfl
theorem q2582 : (Jvm.Cond.code ({ cls := "ParityMazeModel", name := "most", desc := "(II)I" } : Jvm.MethodName) prog_11_method_13_code (2 : Nat) (Option.some Jvm.ClassFile.FieldType.int)) ∈ lw_all := lw_g (lw_at lw_m11 95 rfl) rfl
theorem q2584 : (Jvm.Cond.instanceMethod ({ cls := "ParityMazeModel", name := "key", desc := "(II)I" } : Jvm.MethodName)) ∈ lw_all := lw_g (lw_at lw_m11 97 rfl) rfl
theorem q2585 : (Jvm.Cond.selects "ParityMazeModel" ({ cls := "ParityMazeModel", name := "key", desc := "(II)I" } : Jvm.MethodName) ({ cls := "ParityMazeModel", name := "key", desc := "(II)I" } : Jvm.MethodName)) ∈ lw_all := lw_g (lw_at lw_m11 98 rfl) rfl
theorem q2586 : (Jvm.Cond.code ({ cls := "ParityMazeModel", name := "key", desc := "(II)I" } : Jvm.MethodName) prog_11_method_16_code (4 : Nat) (Option.some Jvm.ClassFile.FieldType.int)) ∈ lw_all := lw_g (lw_at lw_m11 99 rfl) rfl
theorem q2587 : (Jvm.Cond.methodLink "ParityMazeModel" (83 : Nat) ({ cls := "ParityMazeModel", name := "isColour", desc := "(I)Z" } : Jvm.MethodName)) ∈ lw_all := lw_g (lw_at lw_m11 100 rfl) rfl
theorem q2588 : (Jvm.Cond.static ({ cls := "ParityMazeModel", name := "isColour", desc := "(I)Z" } : Jvm.MethodName)) ∈ lw_all := lw_g (lw_at lw_m11 101 rfl) rfl
theorem q2589 : (Jvm.Cond.code ({ cls := "ParityMazeModel", name := "isColour", desc := "(I)Z" } : Jvm.MethodName) prog_11_method_8_code (1 : Nat) (Option.some Jvm.ClassFile.FieldType.boolean)) ∈ lw_all := lw_g (lw_at lw_m11 102 rfl) rfl
theorem q2591 : (Jvm.Cond.instanceMethod ({ cls := "ParityMazeModel", name := "oil", desc := "(II)I" } : Jvm.MethodName)) ∈ lw_all := lw_g (lw_at lw_m11 104 rfl) rfl
theorem q2592 : (Jvm.Cond.selects "ParityMazeModel" ({ cls := "ParityMazeModel", name := "oil", desc := "(II)I" } : Jvm.MethodName) ({ cls := "ParityMazeModel", name := "oil", desc := "(II)I" } : Jvm.MethodName)) ∈ lw_all := lw_g (lw_at lw_m11 105 rfl) rfl
theorem q2593 : (Jvm.Cond.code ({ cls := "ParityMazeModel", name := "oil", desc := "(II)I" } : Jvm.MethodName) prog_11_method_17_code (3 : Nat) (Option.some Jvm.ClassFile.FieldType.int)) ∈ lw_all := lw_g (lw_at lw_m11 106 rfl) rfl
theorem q2594 : (Jvm.Cond.methodLink "ParityMazeModel" (86 : Nat) ({ cls := "ParityMazeModel", name := "oilOf", desc := "(I)I" } : Jvm.MethodName)) ∈ lw_all := lw_g (lw_at lw_m11 107 rfl) rfl
theorem q2595 : (Jvm.Cond.privateMethod ({ cls := "ParityMazeModel", name := "oilOf", desc := "(I)I" } : Jvm.MethodName)) ∈ lw_tbl := lw_at lw_m11 108 rfl
theorem q2596 : (Jvm.Cond.instanceMethod ({ cls := "ParityMazeModel", name := "oilOf", desc := "(I)I" } : Jvm.MethodName)) ∈ lw_all := lw_g (lw_at lw_m11 109 rfl) rfl
theorem q2597 : (Jvm.Cond.code ({ cls := "ParityMazeModel", name := "oilOf", desc := "(I)I" } : Jvm.MethodName) prog_11_method_9_code (2 : Nat) (Option.some Jvm.ClassFile.FieldType.int)) ∈ lw_all := lw_g (lw_at lw_m11 110 rfl) rfl
theorem q2599 : (Jvm.Cond.instanceMethod ({ cls := "ParityMazeModel", name := "go", desc := "(I)I" } : Jvm.MethodName)) ∈ lw_all := lw_g (lw_at lw_m11 112 rfl) rfl
theorem q2600 : (Jvm.Cond.selects "ParityMazeModel" ({ cls := "ParityMazeModel", name := "go", desc := "(I)I" } : Jvm.MethodName) ({ cls := "ParityMazeModel", name := "go", desc := "(I)I" } : Jvm.MethodName)) ∈ lw_all := lw_g (lw_at lw_m11 113 rfl) rfl
theorem q2601 : (Jvm.Cond.code ({ cls := "ParityMazeModel", name := "go", desc := "(I)I" } : Jvm.MethodName) prog_11_method_24_code (5 : Nat) (Option.some Jvm.ClassFile.FieldType.int)) ∈ lw_all := lw_g (lw_at lw_m11 114 rfl) rfl
theorem q2602 : (Jvm.Cond.methodLink "ParityMazeModel" (94 : Nat) ({ cls := "ParityMazeModel", name := "isDoor", desc := "(I)Z" } : Jvm.MethodName)) ∈ lw_all := lw_g (lw_at lw_m11 115 rfl) rfl
theorem q2603 : (Jvm.Cond.privateMethod ({ cls := "ParityMazeModel", name := "isDoor", desc := "(I)Z" } : Jvm.MethodName)) ∈ lw_tbl := lw_at lw_m11 116 rfl
theorem q2604 : (Jvm.Cond.instanceMethod ({ cls := "ParityMazeModel", name := "isDoor", desc := "(I)Z" } : Jvm.MethodName)) ∈ lw_all := lw_g (lw_at lw_m11 117 rfl) rfl
theorem q2605 : (Jvm.Cond.code ({ cls := "ParityMazeModel", name := "isDoor", desc := "(I)Z" } : Jvm.MethodName) prog_11_method_7_code (2 : Nat) (Option.some Jvm.ClassFile.FieldType.boolean)) ∈ lw_all := lw_g (lw_at lw_m11 118 rfl) rfl
theorem q2606 : (Jvm.Cond.methodLink "ParityMazeModel" (90 : Nat) ({ cls := "ParityMazeModel", name := "isAt", desc := "(II)Z" } : Jvm.MethodName)) ∈ lw_all := lw_g (lw_at lw_m11 119 rfl) rfl
theorem q2607 : (Jvm.Cond.privateMethod ({ cls := "ParityMazeModel", name := "isAt", desc := "(II)Z" } : Jvm.MethodName)) ∈ lw_tbl := lw_at lw_m11 120 rfl
theorem q2608 : (Jvm.Cond.instanceMethod ({ cls := "ParityMazeModel", name := "isAt", desc := "(II)Z" } : Jvm.MethodName)) ∈ lw_all := lw_g (lw_at lw_m11 121 rfl) rfl
theorem q2609 : (Jvm.Cond.code ({ cls := "ParityMazeModel", name := "isAt", desc := "(II)Z" } : Jvm.MethodName) prog_11_method_18_code (3 : Nat) (Option.some Jvm.ClassFile.FieldType.boolean)) ∈ lw_all := lw_g (lw_at lw_m11 122 rfl) rfl
theorem q2610 : (Jvm.Cond.methodLink "ParityMazeModel" (97 : Nat) ({ cls := "ParityMazeModel", name := "needs", desc := "(I)I" } : Jvm.MethodName)) ∈ lw_all := lw_g (lw_at lw_m11 123 rfl) rfl
theorem q2611 : (Jvm.Cond.privateMethod ({ cls := "ParityMazeModel", name := "needs", desc := "(I)I" } : Jvm.MethodName)) ∈ lw_tbl := lw_at lw_m11 124 rfl
theorem q2612 : (Jvm.Cond.instanceMethod ({ cls := "ParityMazeModel", name := "needs", desc := "(I)I" } : Jvm.MethodName)) ∈ lw_all := lw_g (lw_at lw_m11 125 rfl) rfl
theorem q2613 : (Jvm.Cond.code ({ cls := "ParityMazeModel", name := "needs", desc := "(I)I" } : Jvm.MethodName) prog_11_method_21_code (2 : Nat) (Option.some Jvm.ClassFile.FieldType.int)) ∈ lw_all := lw_g (lw_at lw_m11 126 rfl) rfl
theorem q2614 : (Jvm.Cond.methodLink "ParityMazeModel" (100 : Nat) ({ cls := "ParityMazeModel", name := "isFor", desc := "(II)Z" } : Jvm.MethodName)) ∈ lw_all := lw_g (lw_at lw_m11 127 rfl) rfl
theorem q2615 : (Jvm.Cond.privateMethod ({ cls := "ParityMazeModel", name := "isFor", desc := "(II)Z" } : Jvm.MethodName)) ∈ lw_tbl := lw_at lw_m11 128 rfl
theorem q2616 : (Jvm.Cond.instanceMethod ({ cls := "ParityMazeModel", name := "isFor", desc := "(II)Z" } : Jvm.MethodName)) ∈ lw_all := lw_g (lw_at lw_m11 129 rfl) rfl
theorem q2617 : (Jvm.Cond.code ({ cls := "ParityMazeModel", name := "isFor", desc := "(II)Z" } : Jvm.MethodName) prog_11_method_22_code (3 : Nat) (Option.some Jvm.ClassFile.FieldType.boolean)) ∈ lw_all := lw_g (lw_at lw_m11 130 rfl) rfl
theorem q2618 : (Jvm.Cond.methodLink "ParityMazeModel" (103 : Nat) ({ cls := "ParityMazeModel", name := "burns", desc := "(I)I" } : Jvm.MethodName)) ∈ lw_all := lw_g (lw_at lw_m11 131 rfl) rfl
theorem q2619 : (Jvm.Cond.privateMethod ({ cls := "ParityMazeModel", name := "burns", desc := "(I)I" } : Jvm.MethodName)) ∈ lw_tbl := lw_at lw_m11 132 rfl
theorem q2620 : (Jvm.Cond.instanceMethod ({ cls := "ParityMazeModel", name := "burns", desc := "(I)I" } : Jvm.MethodName)) ∈ lw_all := lw_g (lw_at lw_m11 133 rfl) rfl
theorem q2621 : (Jvm.Cond.code ({ cls := "ParityMazeModel", name := "burns", desc := "(I)I" } : Jvm.MethodName) prog_11_method_23_code (5 : Nat) (Option.some Jvm.ClassFile.FieldType.int)) ∈ lw_all := lw_g (lw_at lw_m11 134 rfl) rfl
theorem q2622 : (Jvm.Cond.methodLink "ParityMazeModel" (106 : Nat) ({ cls := "ParityMazeModel", name := "behind", desc := "(II)I" } : Jvm.MethodName)) ∈ lw_all := lw_g (lw_at lw_m11 135 rfl) rfl
theorem q2623 : (Jvm.Cond.privateMethod ({ cls := "ParityMazeModel", name := "behind", desc := "(II)I" } : Jvm.MethodName)) ∈ lw_tbl := lw_at lw_m11 136 rfl
theorem q2624 : (Jvm.Cond.instanceMethod ({ cls := "ParityMazeModel", name := "behind", desc := "(II)I" } : Jvm.MethodName)) ∈ lw_all := lw_g (lw_at lw_m11 137 rfl) rfl
theorem q2625 : (Jvm.Cond.code ({ cls := "ParityMazeModel", name := "behind", desc := "(II)I" } : Jvm.MethodName) prog_11_method_20_code (3 : Nat) (Option.some Jvm.ClassFile.FieldType.int)) ∈ lw_all := lw_g (lw_at lw_m11 138 rfl) rfl
theorem q2627 : (Jvm.Cond.instanceMethod ({ cls := "ParityMazeModel", name := "rest", desc := "(I)I" } : Jvm.MethodName)) ∈ lw_all := lw_g (lw_at lw_m11 140 rfl) rfl
theorem q2628 : (Jvm.Cond.selects "ParityMazeModel" ({ cls := "ParityMazeModel", name := "rest", desc := "(I)I" } : Jvm.MethodName) ({ cls := "ParityMazeModel", name := "rest", desc := "(I)I" } : Jvm.MethodName)) ∈ lw_all := lw_g (lw_at lw_m11 141 rfl) rfl
theorem q2629 : (Jvm.Cond.code ({ cls := "ParityMazeModel", name := "rest", desc := "(I)I" } : Jvm.MethodName) prog_11_method_25_code (2 : Nat) (Option.some Jvm.ClassFile.FieldType.int)) ∈ lw_all := lw_g (lw_at lw_m11 142 rfl) rfl
theorem q2631 : (Jvm.Cond.instanceMethod ({ cls := "ParityMazeModel", name := "take", desc := "(I)I" } : Jvm.MethodName)) ∈ lw_all := lw_g (lw_at lw_m11 144 rfl) rfl
theorem q2632 : (Jvm.Cond.selects "ParityMazeModel" ({ cls := "ParityMazeModel", name := "take", desc := "(I)I" } : Jvm.MethodName) ({ cls := "ParityMazeModel", name := "take", desc := "(I)I" } : Jvm.MethodName)) ∈ lw_all := lw_g (lw_at lw_m11 145 rfl) rfl
theorem q2633 : (Jvm.Cond.code ({ cls := "ParityMazeModel", name := "take", desc := "(I)I" } : Jvm.MethodName) prog_11_method_26_code (3 : Nat) (Option.some Jvm.ClassFile.FieldType.int)) ∈ lw_all := lw_g (lw_at lw_m11 146 rfl) rfl
theorem q2635 : (Jvm.Cond.instanceMethod ({ cls := "ParityMazeModel", name := "open", desc := "(I)I" } : Jvm.MethodName)) ∈ lw_all := lw_g (lw_at lw_m11 148 rfl) rfl
theorem q2636 : (Jvm.Cond.selects "ParityMazeModel" ({ cls := "ParityMazeModel", name := "open", desc := "(I)I" } : Jvm.MethodName) ({ cls := "ParityMazeModel", name := "open", desc := "(I)I" } : Jvm.MethodName)) ∈ lw_all := lw_g (lw_at lw_m11 149 rfl) rfl
theorem q2637 : (Jvm.Cond.code ({ cls := "ParityMazeModel", name := "open", desc := "(I)I" } : Jvm.MethodName) prog_11_method_27_code (3 : Nat) (Option.some Jvm.ClassFile.FieldType.int)) ∈ lw_all := lw_g (lw_at lw_m11 150 rfl) rfl
theorem q2639 : (Jvm.Cond.instanceMethod ({ cls := "ParityMazeModel", name := "walker", desc := "(I)I" } : Jvm.MethodName)) ∈ lw_all := lw_g (lw_at lw_m11 152 rfl) rfl
theorem q2640 : (Jvm.Cond.selects "ParityMazeModel" ({ cls := "ParityMazeModel", name := "walker", desc := "(I)I" } : Jvm.MethodName) ({ cls := "ParityMazeModel", name := "walker", desc := "(I)I" } : Jvm.MethodName)) ∈ lw_all := lw_g (lw_at lw_m11 153 rfl) rfl
theorem q2641 : (Jvm.Cond.code ({ cls := "ParityMazeModel", name := "walker", desc := "(I)I" } : Jvm.MethodName) prog_11_method_29_code (2 : Nat) (Option.some Jvm.ClassFile.FieldType.int)) ∈ lw_all := lw_g (lw_at lw_m11 154 rfl) rfl
theorem q2642 : (Jvm.Cond.methodLink "ParityMazeModel" (109 : Nat) ({ cls := "ParityMazeModel", name := "canGo", desc := "()I" } : Jvm.MethodName)) ∈ lw_all := lw_g (lw_at lw_m11 155 rfl) rfl
theorem q2643 : (Jvm.Cond.privateMethod ({ cls := "ParityMazeModel", name := "canGo", desc := "()I" } : Jvm.MethodName)) ∈ lw_tbl := lw_at lw_m11 156 rfl
theorem q2644 : (Jvm.Cond.instanceMethod ({ cls := "ParityMazeModel", name := "canGo", desc := "()I" } : Jvm.MethodName)) ∈ lw_all := lw_g (lw_at lw_m11 157 rfl) rfl
theorem q2645 : (Jvm.Cond.code ({ cls := "ParityMazeModel", name := "canGo", desc := "()I" } : Jvm.MethodName) prog_11_method_28_code (3 : Nat) (Option.some Jvm.ClassFile.FieldType.int)) ∈ lw_all := lw_g (lw_at lw_m11 158 rfl) rfl
theorem q2647 : (Jvm.Cond.instanceMethod ({ cls := "ParityMazeModel", name := "way", desc := "(III)I" } : Jvm.MethodName)) ∈ lw_all := lw_g (lw_at lw_m11 160 rfl) rfl
theorem q2648 : (Jvm.Cond.selects "ParityMazeModel" ({ cls := "ParityMazeModel", name := "way", desc := "(III)I" } : Jvm.MethodName) ({ cls := "ParityMazeModel", name := "way", desc := "(III)I" } : Jvm.MethodName)) ∈ lw_all := lw_g (lw_at lw_m11 161 rfl) rfl
theorem q2649 : (Jvm.Cond.code ({ cls := "ParityMazeModel", name := "way", desc := "(III)I" } : Jvm.MethodName) prog_11_method_35_code (4 : Nat) (Option.some Jvm.ClassFile.FieldType.int)) ∈ lw_all := lw_g (lw_at lw_m11 162 rfl) rfl
theorem q2650 : (Jvm.Cond.methodLink "ParityMazeModel" (119 : Nat) ({ cls := "ParityMazeModel", name := "areRooms", desc := "(II)Z" } : Jvm.MethodName)) ∈ lw_all := lw_g (lw_at lw_m11 163 rfl) rfl
theorem q2651 : (Jvm.Cond.privateMethod ({ cls := "ParityMazeModel", name := "areRooms", desc := "(II)Z" } : Jvm.MethodName)) ∈ lw_tbl := lw_at lw_m11 164 rfl
theorem q2652 : (Jvm.Cond.instanceMethod ({ cls := "ParityMazeModel", name := "areRooms", desc := "(II)Z" } : Jvm.MethodName)) ∈ lw_all := lw_g (lw_at lw_m11 165 rfl) rfl
theorem q2653 : (Jvm.Cond.code ({ cls := "ParityMazeModel", name := "areRooms", desc := "(II)Z" } : Jvm.MethodName) prog_11_method_34_code (3 : Nat) (Option.some Jvm.ClassFile.FieldType.boolean)) ∈ lw_all := lw_g (lw_at lw_m11 166 rfl) rfl
theorem q2654 : (Jvm.Cond.methodLink "ParityMazeModel" (122 : Nat) ({ cls := "ParityMazeModel", name := "spreads", desc := "(IIZ)V" } : Jvm.MethodName)) ∈ lw_all := lw_g (lw_at lw_m11 167 rfl) rfl
theorem q2655 : (Jvm.Cond.privateMethod ({ cls := "ParityMazeModel", name := "spreads", desc := "(IIZ)V" } : Jvm.MethodName)) ∈ lw_tbl := lw_at lw_m11 168 rfl
theorem q2656 : (Jvm.Cond.instanceMethod ({ cls := "ParityMazeModel", name := "spreads", desc := "(IIZ)V" } : Jvm.MethodName)) ∈ lw_all := lw_g (lw_at lw_m11 169 rfl) rfl
theorem q2657 : (Jvm.Cond.code ({ cls := "ParityMazeModel", name := "spreads", desc := "(IIZ)V" } : Jvm.MethodName) prog_11_method_30_code (7 : Nat) (Option.none : Option Jvm.ClassFile.FieldType)) ∈ lw_all := lw_g (lw_at lw_m11 170 rfl) rfl
theorem q2658 : (Jvm.Cond.methodLink "ParityMazeModel" (113 : Nat) ({ cls := "ParityMazeModel", name := "isOpenTo", desc := "(II)Z" } : Jvm.MethodName)) ∈ lw_all := lw_g (lw_at lw_m11 171 rfl) rfl
theorem q2659 : (Jvm.Cond.privateMethod ({ cls := "ParityMazeModel", name := "isOpenTo", desc := "(II)Z" } : Jvm.MethodName)) ∈ lw_tbl := lw_at lw_m11 172 rfl
theorem q2660 : (Jvm.Cond.instanceMethod ({ cls := "ParityMazeModel", name := "isOpenTo", desc := "(II)Z" } : Jvm.MethodName)) ∈ lw_all := lw_g (lw_at lw_m11 173 rfl) rfl
theorem q2661 : (Jvm.Cond.code ({ cls := "ParityMazeModel", name := "isOpenTo", desc := "(II)Z" } : Jvm.MethodName) prog_11_method_31_code (3 : Nat) (Option.some Jvm.ClassFile.FieldType.boolean)) ∈ lw_all := lw_g (lw_at lw_m11 174 rfl) rfl
theorem q2662 : (Jvm.Cond.methodLink "ParityMazeModel" (116 : Nat) ({ cls := "ParityMazeModel", name := "comesBy", desc := "(II)I" } : Jvm.MethodName)) ∈ lw_all := lw_g (lw_at lw_m11 175 rfl) rfl
theorem q2663 : (Jvm.Cond.privateMethod ({ cls := "ParityMazeModel", name := "comesBy", desc := "(II)I" } : Jvm.MethodName)) ∈ lw_tbl := lw_at lw_m11 176 rfl
theorem q2664 : (Jvm.Cond.instanceMethod ({ cls := "ParityMazeModel", name := "comesBy", desc := "(II)I" } : Jvm.MethodName)) ∈ lw_all := lw_g (lw_at lw_m11 177 rfl) rfl
theorem q2665 : (Jvm.Cond.code ({ cls := "ParityMazeModel", name := "comesBy", desc := "(II)I" } : Jvm.MethodName) prog_11_method_32_code (3 : Nat) (Option.some Jvm.ClassFile.FieldType.int)) ∈ lw_all := lw_g (lw_at lw_m11 178 rfl) rfl
theorem q2666 : (Jvm.Cond.methodLink "ParityMazeModel" (126 : Nat) ({ cls := "ParityMazeModel", name := "fewest", desc := "(I)I" } : Jvm.MethodName)) ∈ lw_all := lw_g (lw_at lw_m11 179 rfl) rfl
theorem q2667 : (Jvm.Cond.privateMethod ({ cls := "ParityMazeModel", name := "fewest", desc := "(I)I" } : Jvm.MethodName)) ∈ lw_tbl := lw_at lw_m11 180 rfl
theorem q2668 : (Jvm.Cond.instanceMethod ({ cls := "ParityMazeModel", name := "fewest", desc := "(I)I" } : Jvm.MethodName)) ∈ lw_all := lw_g (lw_at lw_m11 181 rfl) rfl
theorem q2669 : (Jvm.Cond.code ({ cls := "ParityMazeModel", name := "fewest", desc := "(I)I" } : Jvm.MethodName) prog_11_method_33_code (2 : Nat) (Option.some Jvm.ClassFile.FieldType.int)) ∈ lw_all := lw_g (lw_at lw_m11 182 rfl) rfl
theorem q2671 : (Jvm.Cond.instanceMethod ({ cls := "ParityMazeModel", name := "wayAgain", desc := "(III)I" } : Jvm.MethodName)) ∈ lw_all := lw_g (lw_at lw_m11 184 rfl) rfl
theorem q2672 : (Jvm.Cond.selects "ParityMazeModel" ({ cls := "ParityMazeModel", name := "wayAgain", desc := "(III)I" } : Jvm.MethodName) ({ cls := "ParityMazeModel", name := "wayAgain", desc := "(III)I" } : Jvm.MethodName)) ∈ lw_all := lw_g (lw_at lw_m11 185 rfl) rfl
theorem q2673 : (Jvm.Cond.code ({ cls := "ParityMazeModel", name := "wayAgain", desc := "(III)I" } : Jvm.MethodName) prog_11_method_36_code (4 : Nat) (Option.some Jvm.ClassFile.FieldType.int)) ∈ lw_all := lw_g (lw_at lw_m11 186 rfl) rfl
theorem q2674 : (Jvm.Cond.methodLink "ParityMazeModel" (129 : Nat) ({ cls := "ParityMazeModel", name := "way", desc := "(III)I" } : Jvm.MethodName)) ∈ lw_all := lw_g (lw_at lw_m11 187 rfl) rfl
theorem q2676 : (Jvm.Cond.instanceMethod ({ cls := "ParityMazeModel", name := "onWay", desc := "(IIII)I" } : Jvm.MethodName)) ∈ lw_all := lw_g (lw_at lw_m11 189 rfl) rfl
theorem q2677 : (Jvm.Cond.selects "ParityMazeModel" ({ cls := "ParityMazeModel", name := "onWay", desc := "(IIII)I" } : Jvm.MethodName) ({ cls := "ParityMazeModel", name := "onWay", desc := "(IIII)I" } : Jvm.MethodName)) ∈ lw_all := lw_g (lw_at lw_m11 190 rfl) rfl
theorem q2678 : (Jvm.Cond.code ({ cls := "ParityMazeModel", name := "onWay", desc := "(IIII)I" } : Jvm.MethodName) prog_11_method_39_code (7 : Nat) (Option.some Jvm.ClassFile.FieldType.int)) ∈ lw_all := lw_g (lw_at lw_m11 191 rfl) rfl
theorem q2679 : (Jvm.Cond.methodLink "ParityMazeModel" (133 : Nat) ({ cls := "ParityMazeModel", name := "looksBack", desc := "(I)V" } : Jvm.MethodName)) ∈ lw_all := lw_g (lw_at lw_m11 192 rfl) rfl
theorem q2680 : (Jvm.Cond.privateMethod ({ cls := "ParityMazeModel", name := "looksBack", desc := "(I)V" } : Jvm.MethodName)) ∈ lw_tbl := lw_at lw_m11 193 rfl
theorem q2681 : (Jvm.Cond.instanceMethod ({ cls := "ParityMazeModel", name := "looksBack", desc := "(I)V" } : Jvm.MethodName)) ∈ lw_all := lw_g (lw_at lw_m11 194 rfl) rfl
theorem q2682 : (Jvm.Cond.code ({ cls := "ParityMazeModel", name := "looksBack", desc := "(I)V" } : Jvm.MethodName) prog_11_method_37_code (5 : Nat) (Option.none : Option Jvm.ClassFile.FieldType)) ∈ lw_all := lw_g (lw_at lw_m11 195 rfl) rfl
theorem q2683 : (Jvm.Cond.methodLink "ParityMazeModel" (137 : Nat) ({ cls := "ParityMazeModel", name := "goesOn", desc := "(I)I" } : Jvm.MethodName)) ∈ lw_all := lw_g (lw_at lw_m11 196 rfl) rfl
theorem q2684 : (Jvm.Cond.privateMethod ({ cls := "ParityMazeModel", name := "goesOn", desc := "(I)I" } : Jvm.MethodName)) ∈ lw_tbl := lw_at lw_m11 197 rfl
theorem q2685 : (Jvm.Cond.instanceMethod ({ cls := "ParityMazeModel", name := "goesOn", desc := "(I)I" } : Jvm.MethodName)) ∈ lw_all := lw_g (lw_at lw_m11 198 rfl) rfl
theorem q2686 : (Jvm.Cond.code ({ cls := "ParityMazeModel", name := "goesOn", desc := "(I)I" } : Jvm.MethodName) prog_11_method_38_code (3 : Nat) (Option.some Jvm.ClassFile.FieldType.int)) ∈ lw_all := lw_g (lw_at lw_m11 199 rfl) rfl
theorem q2688 : (Jvm.Cond.instanceMethod ({ cls := "ParityMazeModel", name := "longerBack", desc := "(III)I" } : Jvm.MethodName)) ∈ lw_all := lw_g (lw_at lw_m11 201 rfl) rfl
theorem q2689 : (Jvm.Cond.selects "ParityMazeModel" ({ cls := "ParityMazeModel", name := "longerBack", desc := "(III)I" } : Jvm.MethodName) ({ cls := "ParityMazeModel", name := "longerBack", desc := "(III)I" } : Jvm.MethodName)) ∈ lw_all := lw_g (lw_at lw_m11 202 rfl) rfl
theorem q2690 : (Jvm.Cond.code ({ cls := "ParityMazeModel", name := "longerBack", desc := "(III)I" } : Jvm.MethodName) prog_11_method_40_code (5 : Nat) (Option.some Jvm.ClassFile.FieldType.int)) ∈ lw_all := lw_g (lw_at lw_m11 203 rfl) rfl
theorem q2692 : (Jvm.Cond.instanceMethod ({ cls := "ParityMazeModel", name := "roomOf", desc := "(II)I" } : Jvm.MethodName)) ∈ lw_all := lw_g (lw_at lw_m11 205 rfl) rfl
theorem q2693 : (Jvm.Cond.selects "ParityMazeModel" ({ cls := "ParityMazeModel", name := "roomOf", desc := "(II)I" } : Jvm.MethodName) ({ cls := "ParityMazeModel", name := "roomOf", desc := "(II)I" } : Jvm.MethodName)) ∈ lw_all := lw_g (lw_at lw_m11 206 rfl) rfl
theorem q2694 : (Jvm.Cond.code ({ cls := "ParityMazeModel", name := "roomOf", desc := "(II)I" } : Jvm.MethodName) prog_11_method_43_code (3 : Nat) (Option.some Jvm.ClassFile.FieldType.int)) ∈ lw_all := lw_g (lw_at lw_m11 207 rfl) rfl
theorem q2695 : (Jvm.Cond.methodLink "ParityMazeModel" (144 : Nat) ({ cls := "ParityMazeModel", name := "doorsOf", desc := "(I)I" } : Jvm.MethodName)) ∈ lw_all := lw_g (lw_at lw_m11 208 rfl) rfl
theorem q2696 : (Jvm.Cond.privateMethod ({ cls := "ParityMazeModel", name := "doorsOf", desc := "(I)I" } : Jvm.MethodName)) ∈ lw_tbl := lw_at lw_m11 209 rfl
theorem q2697 : (Jvm.Cond.instanceMethod ({ cls := "ParityMazeModel", name := "doorsOf", desc := "(I)I" } : Jvm.MethodName)) ∈ lw_all := lw_g (lw_at lw_m11 210 rfl) rfl
theorem q2698 : (Jvm.Cond.code ({ cls := "ParityMazeModel", name := "doorsOf", desc := "(I)I" } : Jvm.MethodName) prog_11_method_19_code (4 : Nat) (Option.some Jvm.ClassFile.FieldType.int)) ∈ lw_all := lw_g (lw_at lw_m11 211 rfl) rfl
theorem q2699 : (Jvm.Cond.methodLink "ParityMazeModel" (147 : Nat) ({ cls := "ParityMazeModel", name := "isDoubled", desc := "(I)Z" } : Jvm.MethodName)) ∈ lw_all := lw_g (lw_at lw_m11 212 rfl) rfl
theorem q2700 : (Jvm.Cond.privateMethod ({ cls := "ParityMazeModel", name := "isDoubled", desc := "(I)Z" } : Jvm.MethodName)) ∈ lw_tbl := lw_at lw_m11 213 rfl
theorem q2701 : (Jvm.Cond.instanceMethod ({ cls := "ParityMazeModel", name := "isDoubled", desc := "(I)Z" } : Jvm.MethodName)) ∈ lw_all := lw_g (lw_at lw_m11 214 rfl) rfl
theorem q2702 : (Jvm.Cond.code ({ cls := "ParityMazeModel", name := "isDoubled", desc := "(I)Z" } : Jvm.MethodName) prog_11_method_42_code (2 : Nat) (Option.some Jvm.ClassFile.FieldType.boolean)) ∈ lw_all := lw_g (lw_at lw_m11 215 rfl) rfl
theorem q2703 : (Jvm.Cond.methodLink "ParityMazeModel" (140 : Nat) ({ cls := "ParityMazeModel", name := "spreadsNow", desc := "(Z)V" } : Jvm.MethodName)) ∈ lw_all := lw_g (lw_at lw_m11 216 rfl) rfl
theorem q2704 : (Jvm.Cond.privateMethod ({ cls := "ParityMazeModel", name := "spreadsNow", desc := "(Z)V" } : Jvm.MethodName)) ∈ lw_tbl := lw_at lw_m11 217 rfl
theorem q2705 : (Jvm.Cond.instanceMethod ({ cls := "ParityMazeModel", name := "spreadsNow", desc := "(Z)V" } : Jvm.MethodName)) ∈ lw_all := lw_g (lw_at lw_m11 218 rfl) rfl
theorem q2706 : (Jvm.Cond.code ({ cls := "ParityMazeModel", name := "spreadsNow", desc := "(Z)V" } : Jvm.MethodName) prog_11_method_41_code (2 : Nat) (Option.none : Option Jvm.ClassFile.FieldType)) ∈ lw_all := lw_g (lw_at lw_m11 219 rfl) rfl
theorem q2708 : (Jvm.Cond.instanceMethod ({ cls := "ParityMazeModel", name := "doorOf", desc := "(II)I" } : Jvm.MethodName)) ∈ lw_all := lw_g (lw_at lw_m11 221 rfl) rfl
theorem q2709 : (Jvm.Cond.selects "ParityMazeModel" ({ cls := "ParityMazeModel", name := "doorOf", desc := "(II)I" } : Jvm.MethodName) ({ cls := "ParityMazeModel", name := "doorOf", desc := "(II)I" } : Jvm.MethodName)) ∈ lw_all := lw_g (lw_at lw_m11 222 rfl) rfl
theorem q2710 : (Jvm.Cond.code ({ cls := "ParityMazeModel", name := "doorOf", desc := "(II)I" } : Jvm.MethodName) prog_11_method_44_code (3 : Nat) (Option.some Jvm.ClassFile.FieldType.int)) ∈ lw_all := lw_g (lw_at lw_m11 223 rfl) rfl
theorem q2712 : (Jvm.Cond.instanceMethod ({ cls := "ParityMazeModel", name := "reach", desc := "()I" } : Jvm.MethodName)) ∈ lw_all := lw_g (lw_at lw_m11 225 rfl) rfl
theorem q2713 : (Jvm.Cond.selects "ParityMazeModel" ({ cls := "ParityMazeModel", name := "reach", desc := "()I" } : Jvm.MethodName) ({ cls := "ParityMazeModel", name := "reach", desc := "()I" } : Jvm.MethodName)) ∈ lw_all := lw_g (lw_at lw_m11 226 rfl) rfl
theorem q2714 : (Jvm.Cond.code ({ cls := "ParityMazeModel", name := "reach", desc := "()I" } : Jvm.MethodName) prog_11_method_45_code (3 : Nat) (Option.some Jvm.ClassFile.FieldType.int)) ∈ lw_all := lw_g (lw_at lw_m11 227 rfl) rfl
theorem q2716 : (Jvm.Cond.instanceMethod ({ cls := "ParityMazeModel", name := "nearestKey", desc := "(I)I" } : Jvm.MethodName)) ∈ lw_all := lw_g (lw_at lw_m11 229 rfl) rfl
theorem q2717 : (Jvm.Cond.selects "ParityMazeModel" ({ cls := "ParityMazeModel", name := "nearestKey", desc := "(I)I" } : Jvm.MethodName) ({ cls := "ParityMazeModel", name := "nearestKey", desc := "(I)I" } : Jvm.MethodName)) ∈ lw_all := lw_g (lw_at lw_m11 230 rfl) rfl
theorem q2718 : (Jvm.Cond.code ({ cls := "ParityMazeModel", name := "nearestKey", desc := "(I)I" } : Jvm.MethodName) prog_11_method_46_code (4 : Nat) (Option.some Jvm.ClassFile.FieldType.int)) ∈ lw_all := lw_g (lw_at lw_m11 231 rfl) rfl
theorem q2720 : (Jvm.Cond.instanceMethod ({ cls := "ParityMazeModel", name := "ranked", desc := "(I)I" } : Jvm.MethodName)) ∈ lw_all := lw_g (lw_at lw_m11 233 rfl) rfl
theorem q2721 : (Jvm.Cond.selects "ParityMazeModel" ({ cls := "ParityMazeModel", name := "ranked", desc := "(I)I" } : Jvm.MethodName) ({ cls := "ParityMazeModel", name := "ranked", desc := "(I)I" } : Jvm.MethodName)) ∈ lw_all := lw_g (lw_at lw_m11 234 rfl) rfl
theorem q2722 : (Jvm.Cond.code ({ cls := "ParityMazeModel", name := "ranked", desc := "(I)I" } : Jvm.MethodName) prog_11_method_47_code (5 : Nat) (Option.some Jvm.ClassFile.FieldType.int)) ∈ lw_all := lw_g (lw_at lw_m11 235 rfl) rfl
theorem q2724 : (Jvm.Cond.instanceMethod ({ cls := "ParityMazeModel", name := "append", desc := "(I)I" } : Jvm.MethodName)) ∈ lw_all := lw_g (lw_at lw_m11 237 rfl) rfl
theorem q2725 : (Jvm.Cond.selects "ParityMazeModel" ({ cls := "ParityMazeModel", name := "append", desc := "(I)I" } : Jvm.MethodName) ({ cls := "ParityMazeModel", name := "append", desc := "(I)I" } : Jvm.MethodName)) ∈ lw_all := lw_g (lw_at lw_m11 238 rfl) rfl
theorem q2726 : (Jvm.Cond.code ({ cls := "ParityMazeModel", name := "append", desc := "(I)I" } : Jvm.MethodName) prog_11_method_48_code (2 : Nat) (Option.some Jvm.ClassFile.FieldType.int)) ∈ lw_all := lw_g (lw_at lw_m11 239 rfl) rfl
theorem q2728 : (Jvm.Cond.instanceMethod ({ cls := "ParityMazeModel", name := "run", desc := "()I" } : Jvm.MethodName)) ∈ lw_all := lw_g (lw_at lw_m12 1 rfl) rfl
theorem q2729 : (Jvm.Cond.selects "ParityMazeModel" ({ cls := "ParityMazeModel", name := "run", desc := "()I" } : Jvm.MethodName) ({ cls := "ParityMazeModel", name := "run", desc := "()I" } : Jvm.MethodName)) ∈ lw_all := lw_g (lw_at lw_m12 2 rfl) rfl
theorem q2730 : (Jvm.Cond.code ({ cls := "ParityMazeModel", name := "run", desc := "()I" } : Jvm.MethodName) prog_11_method_59_code (3 : Nat) (Option.some Jvm.ClassFile.FieldType.int)) ∈ lw_all := lw_g (lw_at lw_m12 3 rfl) rfl
theorem q2731 : (Jvm.Cond.methodLink "ParityMazeModel" (234 : Nat) ({ cls := "ParityMazeModel", name := "isText", desc := "()Z" } : Jvm.MethodName)) ∈ lw_all := lw_g (lw_at lw_m12 4 rfl) rfl
theorem q2732 : (Jvm.Cond.privateMethod ({ cls := "ParityMazeModel", name := "isText", desc := "()Z" } : Jvm.MethodName)) ∈ lw_tbl := lw_at lw_m12 5 rfl
theorem q2733 : (Jvm.Cond.instanceMethod ({ cls := "ParityMazeModel", name := "isText", desc := "()Z" } : Jvm.MethodName)) ∈ lw_all := lw_g (lw_at lw_m12 6 rfl) rfl
theorem q2734 : (Jvm.Cond.code ({ cls := "ParityMazeModel", name := "isText", desc := "()Z" } : Jvm.MethodName) prog_11_method_57_code (1 : Nat) (Option.some Jvm.ClassFile.FieldType.boolean)) ∈ lw_all := lw_g (lw_at lw_m12 7 rfl) rfl
theorem q2735 : (Jvm.Cond.methodLink "ParityMazeModel" (205 : Nat) ({ cls := "ParityMazeModel", name := "orderHere", desc := "()Z" } : Jvm.MethodName)) ∈ lw_all := lw_g (lw_at lw_m12 8 rfl) rfl
theorem q2736 : (Jvm.Cond.privateMethod ({ cls := "ParityMazeModel", name := "orderHere", desc := "()Z" } : Jvm.MethodName)) ∈ lw_tbl := lw_at lw_m12 9 rfl
theorem q2737 : (Jvm.Cond.instanceMethod ({ cls := "ParityMazeModel", name := "orderHere", desc := "()Z" } : Jvm.MethodName)) ∈ lw_all := lw_g (lw_at lw_m12 10 rfl) rfl
theorem q2738 : (Jvm.Cond.code ({ cls := "ParityMazeModel", name := "orderHere", desc := "()Z" } : Jvm.MethodName) prog_11_method_56_code (2 : Nat) (Option.some Jvm.ClassFile.FieldType.boolean)) ∈ lw_all := lw_g (lw_at lw_m12 11 rfl) rfl
theorem q2739 : (Jvm.Cond.methodLink "ParityMazeModel" (167 : Nat) ({ cls := "ParityMazeModel", name := "skips", desc := "(I)Z" } : Jvm.MethodName)) ∈ lw_all := lw_g (lw_at lw_m12 12 rfl) rfl
theorem q2740 : (Jvm.Cond.privateMethod ({ cls := "ParityMazeModel", name := "skips", desc := "(I)Z" } : Jvm.MethodName)) ∈ lw_tbl := lw_at lw_m12 13 rfl
theorem q2741 : (Jvm.Cond.instanceMethod ({ cls := "ParityMazeModel", name := "skips", desc := "(I)Z" } : Jvm.MethodName)) ∈ lw_all := lw_g (lw_at lw_m12 14 rfl) rfl
theorem q2742 : (Jvm.Cond.code ({ cls := "ParityMazeModel", name := "skips", desc := "(I)Z" } : Jvm.MethodName) prog_11_method_50_code (2 : Nat) (Option.some Jvm.ClassFile.FieldType.boolean)) ∈ lw_all := lw_g (lw_at lw_m12 15 rfl) rfl
theorem q2743 : (Jvm.Cond.methodLink "ParityMazeModel" (156 : Nat) ({ cls := "ParityMazeModel", name := "here", desc := "()I" } : Jvm.MethodName)) ∈ lw_all := lw_g (lw_at lw_m12 16 rfl) rfl
theorem q2744 : (Jvm.Cond.privateMethod ({ cls := "ParityMazeModel", name := "here", desc := "()I" } : Jvm.MethodName)) ∈ lw_tbl := lw_at lw_m12 17 rfl
theorem q2745 : (Jvm.Cond.instanceMethod ({ cls := "ParityMazeModel", name := "here", desc := "()I" } : Jvm.MethodName)) ∈ lw_all := lw_g (lw_at lw_m12 18 rfl) rfl
theorem q2746 : (Jvm.Cond.code ({ cls := "ParityMazeModel", name := "here", desc := "()I" } : Jvm.MethodName) prog_11_method_49_code (1 : Nat) (Option.some Jvm.ClassFile.FieldType.int)) ∈ lw_all := lw_g (lw_at lw_m12 19 rfl) rfl
theorem q2747 : (Jvm.Cond.methodLink "ParityMazeModel" (179 : Nat) ({ cls := "ParityMazeModel", name := "hasOrder", desc := "(I)Z" } : Jvm.MethodName)) ∈ lw_all := lw_g (lw_at lw_m12 20 rfl) rfl
theorem q2748 : (Jvm.Cond.privateMethod ({ cls := "ParityMazeModel", name := "hasOrder", desc := "(I)Z" } : Jvm.MethodName)) ∈ lw_tbl := lw_at lw_m12 21 rfl
theorem q2749 : (Jvm.Cond.instanceMethod ({ cls := "ParityMazeModel", name := "hasOrder", desc := "(I)Z" } : Jvm.MethodName)) ∈ lw_all := lw_g (lw_at lw_m12 22 rfl) rfl
theorem q2750 : (Jvm.Cond.code ({ cls := "ParityMazeModel", name := "hasOrder", desc := "(I)Z" } : Jvm.MethodName) prog_11_method_53_code (2 : Nat) (Option.some Jvm.ClassFile.FieldType.boolean)) ∈ lw_all := lw_g (lw_at lw_m12 23 rfl) rfl
theorem q2751 : (Jvm.Cond.stringRef "ParityMazeModel" (182 : Nat) "o ") ∈ lw_tbl := lw_at lw_m12 24 rfl
theorem q2752 : (Jvm.Cond.methodLink "ParityMazeModel" (184 : Nat) ({ cls := "ParityMazeModel", name := "isWord", desc := "(Ljava/lang/String;)Z" } : Jvm.MethodName)) ∈ lw_all := lw_g (lw_at lw_m12 25 rfl) rfl
theorem q2753 : (Jvm.Cond.privateMethod ({ cls := "ParityMazeModel", name := "isWord", desc := "(Ljava/lang/String;)Z" } : Jvm.MethodName)) ∈ lw_tbl := lw_at lw_m12 26 rfl
theorem q2754 : (Jvm.Cond.instanceMethod ({ cls := "ParityMazeModel", name := "isWord", desc := "(Ljava/lang/String;)Z" } : Jvm.MethodName)) ∈ lw_all := lw_g (lw_at lw_m12 27 rfl) rfl
theorem q2755 : (Jvm.Cond.code ({ cls := "ParityMazeModel", name := "isWord", desc := "(Ljava/lang/String;)Z" } : Jvm.MethodName) prog_11_method_51_code (3 : Nat) (Option.some Jvm.ClassFile.FieldType.boolean)) ∈ lw_all := lw_g (lw_at lw_m12 28 rfl) rfl
theorem q2756 : (Jvm.Cond.methodLink "ParityMazeModel" (159 : Nat) ({ cls := "java/lang/String", name := "length", desc := "()I" } : Jvm.MethodName)) ∈ lw_all := lw_g (lw_at lw_m12 29 rfl) rfl
theorem q2757 : (Jvm.Cond.methodLink "ParityMazeModel" (163 : Nat) ({ cls := "java/lang/String", name := "charAt", desc := "(I)C" } : Jvm.MethodName)) ∈ lw_all := lw_g (lw_at lw_m12 30 rfl) rfl
theorem q2758 : (Jvm.Cond.methodLink "ParityMazeModel" (173 : Nat) ({ cls := "ParityMazeModel", name := "figures", desc := "(II)Z" } : Jvm.MethodName)) ∈ lw_all := lw_g (lw_at lw_m12 31 rfl) rfl
theorem q2759 : (Jvm.Cond.privateMethod ({ cls := "ParityMazeModel", name := "figures", desc := "(II)Z" } : Jvm.MethodName)) ∈ lw_tbl := lw_at lw_m12 32 rfl
theorem q2760 : (Jvm.Cond.instanceMethod ({ cls := "ParityMazeModel", name := "figures", desc := "(II)Z" } : Jvm.MethodName)) ∈ lw_all := lw_g (lw_at lw_m12 33 rfl) rfl
theorem q2761 : (Jvm.Cond.code ({ cls := "ParityMazeModel", name := "figures", desc := "(II)Z" } : Jvm.MethodName) prog_11_method_52_code (4 : Nat) (Option.some Jvm.ClassFile.FieldType.boolean)) ∈ lw_all := lw_g (lw_at lw_m12 34 rfl) rfl
theorem q2762 : (Jvm.Cond.stringRef "ParityMazeModel" (188 : Nat) "ait ") ∈ lw_tbl := lw_at lw_m12 35 rfl
theorem q2763 : (Jvm.Cond.stringRef "ParityMazeModel" (190 : Nat) "ake ") ∈ lw_tbl := lw_at lw_m12 36 rfl
theorem q2764 : (Jvm.Cond.stringRef "ParityMazeModel" (192 : Nat) "oom ") ∈ lw_tbl := lw_at lw_m12 37 rfl
theorem q2765 : (Jvm.Cond.stringRef "ParityMazeModel" (194 : Nat) "ey ") ∈ lw_tbl := lw_at lw_m12 38 rfl
theorem q2766 : (Jvm.Cond.stringRef "ParityMazeModel" (196 : Nat) "oor ") ∈ lw_tbl := lw_at lw_m12 39 rfl
theorem q2767 : (Jvm.Cond.methodLink "ParityMazeModel" (198 : Nat) ({ cls := "ParityMazeModel", name := "doorHere", desc := "(I)Z" } : Jvm.MethodName)) ∈ lw_all := lw_g (lw_at lw_m12 40 rfl) rfl
theorem q2768 : (Jvm.Cond.privateMethod ({ cls := "ParityMazeModel", name := "doorHere", desc := "(I)Z" } : Jvm.MethodName)) ∈ lw_tbl := lw_at lw_m12 41 rfl
theorem q2769 : (Jvm.Cond.instanceMethod ({ cls := "ParityMazeModel", name := "doorHere", desc := "(I)Z" } : Jvm.MethodName)) ∈ lw_all := lw_g (lw_at lw_m12 42 rfl) rfl
theorem q2770 : (Jvm.Cond.code ({ cls := "ParityMazeModel", name := "doorHere", desc := "(I)Z" } : Jvm.MethodName) prog_11_method_55_code (2 : Nat) (Option.some Jvm.ClassFile.FieldType.boolean)) ∈ lw_all := lw_g (lw_at lw_m12 43 rfl) rfl
theorem q2771 : (Jvm.Cond.methodLink "ParityMazeModel" (176 : Nat) ({ cls := "ParityMazeModel", name := "lockHere", desc := "(I)Z" } : Jvm.MethodName)) ∈ lw_all := lw_g (lw_at lw_m12 44 rfl) rfl
theorem q2772 : (Jvm.Cond.privateMethod ({ cls := "ParityMazeModel", name := "lockHere", desc := "(I)Z" } : Jvm.MethodName)) ∈ lw_tbl := lw_at lw_m12 45 rfl
theorem q2773 : (Jvm.Cond.instanceMethod ({ cls := "ParityMazeModel", name := "lockHere", desc := "(I)Z" } : Jvm.MethodName)) ∈ lw_all := lw_g (lw_at lw_m12 46 rfl) rfl
theorem q2774 : (Jvm.Cond.code ({ cls := "ParityMazeModel", name := "lockHere", desc := "(I)Z" } : Jvm.MethodName) prog_11_method_54_code (2 : Nat) (Option.some Jvm.ClassFile.FieldType.boolean)) ∈ lw_all := lw_g (lw_at lw_m12 47 rfl) rfl
theorem q2775 : (Jvm.Cond.stringRef "ParityMazeModel" (201 : Nat) "en ") ∈ lw_tbl := lw_at lw_m12 48 rfl
theorem q2776 : (Jvm.Cond.stringRef "ParityMazeModel" (203 : Nat) "il ") ∈ lw_tbl := lw_at lw_m12 49 rfl
theorem q2777 : (Jvm.Cond.methodLink "ParityMazeModel" (237 : Nat) ({ cls := "ParityMazeModel", name := "carries", desc := "(I)I" } : Jvm.MethodName)) ∈ lw_all := lw_g (lw_at lw_m12 50 rfl) rfl
theorem q2778 : (Jvm.Cond.privateMethod ({ cls := "ParityMazeModel", name := "carries", desc := "(I)I" } : Jvm.MethodName)) ∈ lw_tbl := lw_at lw_m12 51 rfl
theorem q2779 : (Jvm.Cond.instanceMethod ({ cls := "ParityMazeModel", name := "carries", desc := "(I)I" } : Jvm.MethodName)) ∈ lw_all := lw_g (lw_at lw_m12 52 rfl) rfl
theorem q2780 : (Jvm.Cond.code ({ cls := "ParityMazeModel", name := "carries", desc := "(I)I" } : Jvm.MethodName) prog_11_method_58_code (3 : Nat) (Option.some Jvm.ClassFile.FieldType.int)) ∈ lw_all := lw_g (lw_at lw_m12 53 rfl) rfl
theorem q2781 : (Jvm.Cond.methodLink "ParityMazeModel" (209 : Nat) ({ cls := "ParityMazeModel", name := "go", desc := "(I)I" } : Jvm.MethodName)) ∈ lw_all := lw_g (lw_at lw_m12 54 rfl) rfl
theorem q2782 : (Jvm.Cond.methodLink "ParityMazeModel" (212 : Nat) ({ cls := "ParityMazeModel", name := "rest", desc := "(I)I" } : Jvm.MethodName)) ∈ lw_all := lw_g (lw_at lw_m12 55 rfl) rfl
theorem q2783 : (Jvm.Cond.methodLink "ParityMazeModel" (215 : Nat) ({ cls := "ParityMazeModel", name := "take", desc := "(I)I" } : Jvm.MethodName)) ∈ lw_all := lw_g (lw_at lw_m12 56 rfl) rfl
theorem q2784 : (Jvm.Cond.methodLink "ParityMazeModel" (218 : Nat) ({ cls := "ParityMazeModel", name := "open", desc := "(I)I" } : Jvm.MethodName)) ∈ lw_all := lw_g (lw_at lw_m12 57 rfl) rfl
theorem q2785 : (Jvm.Cond.methodLink "ParityMazeModel" (221 : Nat) ({ cls := "ParityMazeModel", name := "oil", desc := "(II)I" } : Jvm.MethodName)) ∈ lw_all := lw_g (lw_at lw_m12 58 rfl) rfl
theorem q2786 : (Jvm.Cond.methodLink "ParityMazeModel" (224 : Nat) ({ cls := "ParityMazeModel", name := "room", desc := "(I)I" } : Jvm.MethodName)) ∈ lw_all := lw_g (lw_at lw_m12 59 rfl) rfl
theorem q2787 : (Jvm.Cond.methodLink "ParityMazeModel" (227 : Nat) ({ cls := "ParityMazeModel", name := "key", desc := "(II)I" } : Jvm.MethodName)) ∈ lw_all := lw_g (lw_at lw_m12 60 rfl) rfl
theorem q2788 : (Jvm.Cond.methodLink "ParityMazeModel" (230 : Nat) ({ cls := "ParityMazeModel", name := "door", desc := "(IIII)I" } : Jvm.MethodName)) ∈ lw_all := lw_g (lw_at lw_m12 61 rfl) rfl
theorem q2790 : (Jvm.Cond.instanceMethod ({ cls := "ParityMazeModel", name := "tell", desc := "(I)I" } : Jvm.MethodName)) ∈ lw_all := lw_g (lw_at lw_m12 63 rfl) rfl
theorem q2791 : (Jvm.Cond.selects "ParityMazeModel" ({ cls := "ParityMazeModel", name := "tell", desc := "(I)I" } : Jvm.MethodName) ({ cls := "ParityMazeModel", name := "tell", desc := "(I)I" } : Jvm.MethodName)) ∈ lw_all := lw_g (lw_at lw_m12 64 rfl) rfl
theorem q2792 : (Jvm.Cond.code ({ cls := "ParityMazeModel", name := "tell", desc := "(I)I" } : Jvm.MethodName) prog_11_method_62_code (4 : Nat) (Option.some Jvm.ClassFile.FieldType.int)) ∈ lw_all := lw_g (lw_at lw_m12 65 rfl) rfl
theorem q2793 : (Jvm.Cond.methodLink "ParityMazeModel" (246 : Nat) ({ cls := "ParityMazeModel", name := "writesNumber", desc := "(I)V" } : Jvm.MethodName)) ∈ lw_all := lw_g (lw_at lw_m12 66 rfl) rfl
theorem q2794 : (Jvm.Cond.privateMethod ({ cls := "ParityMazeModel", name := "writesNumber", desc := "(I)V" } : Jvm.MethodName)) ∈ lw_tbl := lw_at lw_m12 67 rfl
theorem q2795 : (Jvm.Cond.instanceMethod ({ cls := "ParityMazeModel", name := "writesNumber", desc := "(I)V" } : Jvm.MethodName)) ∈ lw_all := lw_g (lw_at lw_m12 68 rfl) rfl
theorem q2796 : (Jvm.Cond.code ({ cls := "ParityMazeModel", name := "writesNumber", desc := "(I)V" } : Jvm.MethodName) prog_11_method_61_code (2 : Nat) (Option.none : Option Jvm.ClassFile.FieldType)) ∈ lw_all := lw_g (lw_at lw_m12 69 rfl) rfl
theorem q2797 : (Jvm.Cond.methodLink "ParityMazeModel" (243 : Nat) ({ cls := "ParityMazeModel", name := "writes", desc := "(I)V" } : Jvm.MethodName)) ∈ lw_all := lw_g (lw_at lw_m12 70 rfl) rfl
theorem q2798 : (Jvm.Cond.privateMethod ({ cls := "ParityMazeModel", name := "writes", desc := "(I)V" } : Jvm.MethodName)) ∈ lw_tbl := lw_at lw_m12 71 rfl
theorem q2799 : (Jvm.Cond.instanceMethod ({ cls := "ParityMazeModel", name := "writes", desc := "(I)V" } : Jvm.MethodName)) ∈ lw_all := lw_g (lw_at lw_m12 72 rfl) rfl
theorem q2800 : (Jvm.Cond.code ({ cls := "ParityMazeModel", name := "writes", desc := "(I)V" } : Jvm.MethodName) prog_11_method_60_code (2 : Nat) (Option.none : Option Jvm.ClassFile.FieldType)) ∈ lw_all := lw_g (lw_at lw_m12 73 rfl) rfl
theorem q2802 : (Jvm.Cond.instanceMethod ({ cls := "ParityMazeModel", name := "tellDoor", desc := "(I)I" } : Jvm.MethodName)) ∈ lw_all := lw_g (lw_at lw_m12 75 rfl) rfl
theorem q2803 : (Jvm.Cond.selects "ParityMazeModel" ({ cls := "ParityMazeModel", name := "tellDoor", desc := "(I)I" } : Jvm.MethodName) ({ cls := "ParityMazeModel", name := "tellDoor", desc := "(I)I" } : Jvm.MethodName)) ∈ lw_all := lw_g (lw_at lw_m12 76 rfl) rfl
theorem q2804 : (Jvm.Cond.code ({ cls := "ParityMazeModel", name := "tellDoor", desc := "(I)I" } : Jvm.MethodName) prog_11_method_63_code (2 : Nat) (Option.some Jvm.ClassFile.FieldType.int)) ∈ lw_all := lw_g (lw_at lw_m12 77 rfl) rfl
theorem q2806 : (Jvm.Cond.instanceMethod ({ cls := "ParityMazeModel", name := "character", desc := "(I)I" } : Jvm.MethodName)) ∈ lw_all := lw_g (lw_at lw_m12 79 rfl) rfl
theorem q2807 : (Jvm.Cond.selects "ParityMazeModel" ({ cls := "ParityMazeModel", name := "character", desc := "(I)I" } : Jvm.MethodName) ({ cls := "ParityMazeModel", name := "character", desc := "(I)I" } : Jvm.MethodName)) ∈ lw_all := lw_g (lw_at lw_m12 80 rfl) rfl
theorem q2808 : (Jvm.Cond.code ({ cls := "ParityMazeModel", name := "character", desc := "(I)I" } : Jvm.MethodName) prog_11_method_64_code (2 : Nat) (Option.some Jvm.ClassFile.FieldType.int)) ∈ lw_all := lw_g (lw_at lw_m12 81 rfl) rfl
theorem q2810 : (Jvm.Cond.instanceMethod ({ cls := "ParityMazeModel", name := "reason", desc := "(Z)I" } : Jvm.MethodName)) ∈ lw_all := lw_g (lw_at lw_m12 83 rfl) rfl
theorem q2811 : (Jvm.Cond.selects "ParityMazeModel" ({ cls := "ParityMazeModel", name := "reason", desc := "(Z)I" } : Jvm.MethodName) ({ cls := "ParityMazeModel", name := "reason", desc := "(Z)I" } : Jvm.MethodName)) ∈ lw_all := lw_g (lw_at lw_m12 84 rfl) rfl
theorem q2812 : (Jvm.Cond.code ({ cls := "ParityMazeModel", name := "reason", desc := "(Z)I" } : Jvm.MethodName) prog_11_method_65_code (2 : Nat) (Option.some Jvm.ClassFile.FieldType.int)) ∈ lw_all := lw_g (lw_at lw_m12 85 rfl) rfl
theorem q2814 : (Jvm.Cond.instanceMethod ({ cls := "ParityMazeModel", name := "account", desc := "(I)I" } : Jvm.MethodName)) ∈ lw_all := lw_g (lw_at lw_m12 87 rfl) rfl
theorem q2815 : (Jvm.Cond.selects "ParityMazeModel" ({ cls := "ParityMazeModel", name := "account", desc := "(I)I" } : Jvm.MethodName) ({ cls := "ParityMazeModel", name := "account", desc := "(I)I" } : Jvm.MethodName)) ∈ lw_all := lw_g (lw_at lw_m12 88 rfl) rfl
theorem q2816 : (Jvm.Cond.code ({ cls := "ParityMazeModel", name := "account", desc := "(I)I" } : Jvm.MethodName) prog_11_method_71_code (2 : Nat) (Option.some Jvm.ClassFile.FieldType.int)) ∈ lw_all := lw_g (lw_at lw_m12 89 rfl) rfl
theorem q2817 : (Jvm.Cond.methodLink "ParityMazeModel" (249 : Nat) ({ cls := "ParityMazeModel", name := "lit", desc := "()I" } : Jvm.MethodName)) ∈ lw_all := lw_g (lw_at lw_m12 90 rfl) rfl
theorem q2818 : (Jvm.Cond.privateMethod ({ cls := "ParityMazeModel", name := "lit", desc := "()I" } : Jvm.MethodName)) ∈ lw_tbl := lw_at lw_m12 91 rfl
theorem q2819 : (Jvm.Cond.instanceMethod ({ cls := "ParityMazeModel", name := "lit", desc := "()I" } : Jvm.MethodName)) ∈ lw_all := lw_g (lw_at lw_m12 92 rfl) rfl
theorem q2820 : (Jvm.Cond.code ({ cls := "ParityMazeModel", name := "lit", desc := "()I" } : Jvm.MethodName) prog_11_method_66_code (3 : Nat) (Option.some Jvm.ClassFile.FieldType.int)) ∈ lw_all := lw_g (lw_at lw_m12 93 rfl) rfl
theorem q2821 : (Jvm.Cond.methodLink "ParityMazeModel" (252 : Nat) ({ cls := "ParityMazeModel", name := "shut", desc := "()I" } : Jvm.MethodName)) ∈ lw_all := lw_g (lw_at lw_m12 94 rfl) rfl
theorem q2822 : (Jvm.Cond.privateMethod ({ cls := "ParityMazeModel", name := "shut", desc := "()I" } : Jvm.MethodName)) ∈ lw_tbl := lw_at lw_m12 95 rfl
theorem q2823 : (Jvm.Cond.instanceMethod ({ cls := "ParityMazeModel", name := "shut", desc := "()I" } : Jvm.MethodName)) ∈ lw_all := lw_g (lw_at lw_m12 96 rfl) rfl
theorem q2824 : (Jvm.Cond.code ({ cls := "ParityMazeModel", name := "shut", desc := "()I" } : Jvm.MethodName) prog_11_method_67_code (3 : Nat) (Option.some Jvm.ClassFile.FieldType.int)) ∈ lw_all := lw_g (lw_at lw_m12 97 rfl) rfl
theorem q2825 : (Jvm.Cond.methodLink "ParityMazeModel" (255 : Nat) ({ cls := "ParityMazeModel", name := "lying", desc := "()I" } : Jvm.MethodName)) ∈ lw_all := lw_g (lw_at lw_m12 98 rfl) rfl
theorem q2826 : (Jvm.Cond.privateMethod ({ cls := "ParityMazeModel", name := "lying", desc := "()I" } : Jvm.MethodName)) ∈ lw_tbl := lw_at lw_m12 99 rfl
theorem q2827 : (Jvm.Cond.instanceMethod ({ cls := "ParityMazeModel", name := "lying", desc := "()I" } : Jvm.MethodName)) ∈ lw_all := lw_g (lw_at lw_m12 100 rfl) rfl
theorem q2828 : (Jvm.Cond.code ({ cls := "ParityMazeModel", name := "lying", desc := "()I" } : Jvm.MethodName) prog_11_method_68_code (4 : Nat) (Option.some Jvm.ClassFile.FieldType.int)) ∈ lw_all := lw_g (lw_at lw_m12 101 rfl) rfl
theorem q2829 : (Jvm.Cond.methodLink "ParityMazeModel" (258 : Nat) ({ cls := "ParityMazeModel", name := "inHand", desc := "()I" } : Jvm.MethodName)) ∈ lw_all := lw_g (lw_at lw_m12 102 rfl) rfl
theorem q2830 : (Jvm.Cond.privateMethod ({ cls := "ParityMazeModel", name := "inHand", desc := "()I" } : Jvm.MethodName)) ∈ lw_tbl := lw_at lw_m12 103 rfl
theorem q2831 : (Jvm.Cond.instanceMethod ({ cls := "ParityMazeModel", name := "inHand", desc := "()I" } : Jvm.MethodName)) ∈ lw_all := lw_g (lw_at lw_m12 104 rfl) rfl
theorem q2832 : (Jvm.Cond.code ({ cls := "ParityMazeModel", name := "inHand", desc := "()I" } : Jvm.MethodName) prog_11_method_69_code (1 : Nat) (Option.some Jvm.ClassFile.FieldType.int)) ∈ lw_all := lw_g (lw_at lw_m12 105 rfl) rfl
theorem q2833 : (Jvm.Cond.methodLink "ParityMazeModel" (261 : Nat) ({ cls := "ParityMazeModel", name := "allOil", desc := "()I" } : Jvm.MethodName)) ∈ lw_all := lw_g (lw_at lw_m12 106 rfl) rfl
theorem q2834 : (Jvm.Cond.privateMethod ({ cls := "ParityMazeModel", name := "allOil", desc := "()I" } : Jvm.MethodName)) ∈ lw_tbl := lw_at lw_m12 107 rfl
theorem q2835 : (Jvm.Cond.instanceMethod ({ cls := "ParityMazeModel", name := "allOil", desc := "()I" } : Jvm.MethodName)) ∈ lw_all := lw_g (lw_at lw_m12 108 rfl) rfl
theorem q2836 : (Jvm.Cond.code ({ cls := "ParityMazeModel", name := "allOil", desc := "()I" } : Jvm.MethodName) prog_11_method_70_code (3 : Nat) (Option.some Jvm.ClassFile.FieldType.int)) ∈ lw_all := lw_g (lw_at lw_m12 109 rfl) rfl
theorem q2838 : (Jvm.Cond.instanceMethod ({ cls := "ParityMazeModel", name := "isBalanced", desc := "()I" } : Jvm.MethodName)) ∈ lw_all := lw_g (lw_at lw_m12 111 rfl) rfl
theorem q2839 : (Jvm.Cond.selects "ParityMazeModel" ({ cls := "ParityMazeModel", name := "isBalanced", desc := "()I" } : Jvm.MethodName) ({ cls := "ParityMazeModel", name := "isBalanced", desc := "()I" } : Jvm.MethodName)) ∈ lw_all := lw_g (lw_at lw_m12 112 rfl) rfl
theorem q2840 : (Jvm.Cond.code ({ cls := "ParityMazeModel", name := "isBalanced", desc := "()I" } : Jvm.MethodName) prog_11_method_72_code (1 : Nat) (Option.some Jvm.ClassFile.FieldType.int)) ∈ lw_all := lw_g (lw_at lw_m12 113 rfl) rfl
theorem q2842 : (Jvm.Cond.instanceMethod ({ cls := "ParityMazeModel", name := "meanOil", desc := "()D" } : Jvm.MethodName)) ∈ lw_all := lw_g (lw_at lw_m12 115 rfl) rfl
theorem q2843 : (Jvm.Cond.selects "ParityMazeModel" ({ cls := "ParityMazeModel", name := "meanOil", desc := "()D" } : Jvm.MethodName) ({ cls := "ParityMazeModel", name := "meanOil", desc := "()D" } : Jvm.MethodName)) ∈ lw_all := lw_g (lw_at lw_m12 116 rfl) rfl
theorem q2844 : (Jvm.Cond.code ({ cls := "ParityMazeModel", name := "meanOil", desc := "()D" } : Jvm.MethodName) prog_11_method_73_code (1 : Nat) (Option.some Jvm.ClassFile.FieldType.double)) ∈ lw_all := lw_g (lw_at lw_m12 117 rfl) rfl
theorem q2846 : (Jvm.Cond.instanceMethod ({ cls := "ParityMazeModel", name := "doubledShare", desc := "()F" } : Jvm.MethodName)) ∈ lw_all := lw_g (lw_at lw_m12 119 rfl) rfl
theorem q2847 : (Jvm.Cond.selects "ParityMazeModel" ({ cls := "ParityMazeModel", name := "doubledShare", desc := "()F" } : Jvm.MethodName) ({ cls := "ParityMazeModel", name := "doubledShare", desc := "()F" } : Jvm.MethodName)) ∈ lw_all := lw_g (lw_at lw_m12 120 rfl) rfl
theorem q2848 : (Jvm.Cond.code ({ cls := "ParityMazeModel", name := "doubledShare", desc := "()F" } : Jvm.MethodName) prog_11_method_74_code (3 : Nat) (Option.some Jvm.ClassFile.FieldType.float)) ∈ lw_all := lw_g (lw_at lw_m12 121 rfl) rfl
theorem q2850 : (Jvm.Cond.instanceMethod ({ cls := "ParityMazeModel", name := "undo", desc := "()I" } : Jvm.MethodName)) ∈ lw_all := lw_g (lw_at lw_m12 123 rfl) rfl
theorem q2851 : (Jvm.Cond.selects "ParityMazeModel" ({ cls := "ParityMazeModel", name := "undo", desc := "()I" } : Jvm.MethodName) ({ cls := "ParityMazeModel", name := "undo", desc := "()I" } : Jvm.MethodName)) ∈ lw_all := lw_g (lw_at lw_m12 124 rfl) rfl
theorem q2852 : (Jvm.Cond.code ({ cls := "ParityMazeModel", name := "undo", desc := "()I" } : Jvm.MethodName) prog_11_method_75_code (1 : Nat) (Option.some Jvm.ClassFile.FieldType.int)) ∈ lw_all := lw_g (lw_at lw_m12 125 rfl) rfl
theorem q2854 : (Jvm.Cond.instanceMethod ({ cls := "ParityMazeModel", name := "save", desc := "()I" } : Jvm.MethodName)) ∈ lw_all := lw_g (lw_at lw_m12 127 rfl) rfl
theorem q2855 : (Jvm.Cond.selects "ParityMazeModel" ({ cls := "ParityMazeModel", name := "save", desc := "()I" } : Jvm.MethodName) ({ cls := "ParityMazeModel", name := "save", desc := "()I" } : Jvm.MethodName)) ∈ lw_all := lw_g (lw_at lw_m12 128 rfl) rfl
theorem q2856 : (Jvm.Cond.code ({ cls := "ParityMazeModel", name := "save", desc := "()I" } : Jvm.MethodName) prog_11_method_76_code (1 : Nat) (Option.some Jvm.ClassFile.FieldType.int)) ∈ lw_all := lw_g (lw_at lw_m12 129 rfl) rfl
theorem q2858 : (Jvm.Cond.instanceMethod ({ cls := "ParityMazeModel", name := "restore", desc := "()I" } : Jvm.MethodName)) ∈ lw_all := lw_g (lw_at lw_m12 131 rfl) rfl
theorem q2859 : (Jvm.Cond.selects "ParityMazeModel" ({ cls := "ParityMazeModel", name := "restore", desc := "()I" } : Jvm.MethodName) ({ cls := "ParityMazeModel", name := "restore", desc := "()I" } : Jvm.MethodName)) ∈ lw_all := lw_g (lw_at lw_m12 132 rfl) rfl
theorem q2860 : (Jvm.Cond.code ({ cls := "ParityMazeModel", name := "restore", desc := "()I" } : Jvm.MethodName) prog_11_method_77_code (1 : Nat) (Option.some Jvm.ClassFile.FieldType.int)) ∈ lw_all := lw_g (lw_at lw_m12 133 rfl) rfl
theorem q2892 : (Jvm.Cond.castable "ParityMazeModel" "java/lang/Object") ∈ lw_tbl := lw_at lw_m12 165 rfl
theorem in_X2 : ∀ w ∈ wsX20, w ∈ lw_all := lw_in wsX20 [2506, 2508, 2510, 2512, 2514, 2516, 2518, 2520, 2522, 2524, 2526, 2528, 2530, 2532, 2534, 2536, 2538, 2540] (by decide +kernel) (by decide +kernel)
