/-! CrewPairer -/
set_option maxRecDepth 100000
def RX0 : String := "CrewPairer"
def TX0 : u_T := fun k => match k with
  | 0 => ("CrewPairer", "state", "LCrewPairer$State;", false)
  | 1 => ("CrewPairer", "saved", "LCrewPairer$State;", false)
  | 2 => ("CrewPairer", "history", "[LCrewPairer$State;", true)
  | 3 => ("CrewPairer", "changes", "I", false)
  | 4 => ("CrewPairer", "isExecuting", "Z", false)
  | 5 => ("CrewPairer", "row", "[I", true)
  | 6 => ("CrewPairer", "dutyStarts", "[I", true)
  | 7 => ("CrewPairer", "rowFlies", "[Z", true)
  | 8 => ("CrewPairer", "rowItems", "I", false)
  | 9 => ("CrewPairer", "rowBase", "I", false)
  | 10 => ("CrewPairer", "duties", "I", false)
  | 11 => ("CrewPairer", "foundKind", "I", false)
  | 12 => ("CrewPairer", "foundPlace", "I", false)
  | 13 => ("CrewPairer", "open", "[I", true)
  | 14 => ("CrewPairer", "waiting", "[I", true)
  | 15 => ("CrewPairer", "removed", "[I", true)
  | 16 => ("CrewPairer", "removedCount", "I", false)
  | 17 => ("CrewPairer", "chosen", "[I", true)
  | 18 => ("CrewPairer", "best", "[I", true)
  | 19 => ("CrewPairer", "bestLength", "I", false)
  | 20 => ("CrewPairer", "bestSum", "I", false)
  | 21 => ("CrewPairer", "buffer", "Ljava/lang/StringBuilder;", true)
  | 22 => ("CrewPairer", "position", "I", false)
  | 23 => ("CrewPairer", "words", "[Ljava/lang/String;", true)
  | _ => ("CrewPairer", "numbers", "[I", true)
def tyX0 : Nat → FieldType := fun k => match k with
  | 0 => .object "CrewPairer$State"
  | 1 => .object "CrewPairer$State"
  | 2 => .array (.object "CrewPairer$State")
  | 3 => .int
  | 4 => .boolean
  | 5 => .array .int
  | 6 => .array .int
  | 7 => .array .boolean
  | 8 => .int
  | 9 => .int
  | 10 => .int
  | 11 => .int
  | 12 => .int
  | 13 => .array .int
  | 14 => .array .int
  | 15 => .array .int
  | 16 => .int
  | 17 => .array .int
  | 18 => .array .int
  | 19 => .int
  | 20 => .int
  | 21 => .object "java/lang/StringBuilder"
  | 22 => .int
  | 23 => .array (.object "java/lang/String")
  | _ => .array .int
abbrev wsX00 : List Cond := u_ws RX0 TX0 25
set_option maxRecDepth 100000 in
theorem nmX0 : ∀ a, a < 25 → ∀ b, b < 25 → a ≠ b → (TX0 a).2.1 ≠ (TX0 b).2.1 := by decide +kernel
set_option maxRecDepth 100000 in
theorem tyX0_ok : ∀ k, k < 25 → parseFieldDescriptor (TX0 k).2.2.1 = some (tyX0 k) := by decide +kernel
abbrev cX0_init : ByteArray := prog_1_method_2_code
def yX0_init : MethodName := ⟨RX0, "<init>", "()V"⟩
def dkwX0_init_5 : List UInt8 := [177]
abbrev dktX0_init_5 : List UInt8 := dkwX0_init_5 ++ []
def dkwX0_init_4 : List UInt8 := [183, 0, 48, 181, 0, 49, 42, 16, 60, 189, 0, 53, 181, 0, 55, 42, 17, 0, 240, 188, 10, 181, 0, 59]
abbrev dktX0_init_4 : List UInt8 := dkwX0_init_4 ++ dktX0_init_5
def dkwX0_init_3 : List UInt8 := [181, 0, 37, 42, 16, 6, 188, 10, 181, 0, 40, 42, 16, 6, 188, 10, 181, 0, 43, 42, 187, 0, 46, 89]
abbrev dktX0_init_3 : List UInt8 := dkwX0_init_3 ++ dktX0_init_4
def dkwX0_init_2 : List UInt8 := [42, 16, 24, 188, 10, 181, 0, 31, 42, 16, 24, 188, 10, 181, 0, 34, 42, 17, 2, 64, 188, 10]
abbrev dktX0_init_2 : List UInt8 := dkwX0_init_2 ++ dktX0_init_3
def dkwX0_init_1 : List UInt8 := [42, 16, 30, 188, 10, 181, 0, 20, 42, 16, 30, 188, 10, 181, 0, 24, 42, 16, 30, 188, 4, 181, 0, 27]
abbrev dktX0_init_1 : List UInt8 := dkwX0_init_1 ++ dktX0_init_2
def dkwX0_init_0 : List UInt8 := [42, 183, 0, 1, 42, 187, 0, 7, 89, 183, 0, 9, 181, 0, 10, 42, 16, 8, 189, 0, 7, 181, 0, 16]
abbrev dktX0_init_0 : List UInt8 := dkwX0_init_0 ++ dktX0_init_1
theorem dksX0_init_0 : cX0_init.data.toList.drop 0 = dktX0_init_0 := by decide +kernel
theorem dksX0_init_1 : cX0_init.data.toList.drop 24 = dktX0_init_1 := dk_seg dksX0_init_0 24 rfl rfl
theorem dksX0_init_2 : cX0_init.data.toList.drop 48 = dktX0_init_2 := dk_seg dksX0_init_1 24 rfl rfl
theorem dksX0_init_3 : cX0_init.data.toList.drop 70 = dktX0_init_3 := dk_seg dksX0_init_2 22 rfl rfl
theorem dksX0_init_4 : cX0_init.data.toList.drop 94 = dktX0_init_4 := dk_seg dksX0_init_3 24 rfl rfl
theorem dksX0_init_5 : cX0_init.data.toList.drop 118 = dktX0_init_5 := dk_seg dksX0_init_4 24 rfl rfl
theorem dX0_init_0 : decode cX0_init 0 = .ok (.aload_n 0, 1) := dk_42 (dk_at dksX0_init_0 0 rfl rfl)
theorem dX0_init_1 : decode cX0_init 1 = .ok (.invokespecial 1, 3) := dk_183 0 1 (dk_at dksX0_init_0 1 rfl rfl)
theorem dX0_init_4 : decode cX0_init 4 = .ok (.aload_n 0, 1) := dk_42 (dk_at dksX0_init_0 4 rfl rfl)
theorem dX0_init_5 : decode cX0_init 5 = .ok (.new 7, 3) := dk_187 0 7 (dk_at dksX0_init_0 5 rfl rfl)
theorem dX0_init_8 : decode cX0_init 8 = .ok (.dup, 1) := dk_89 (dk_at dksX0_init_0 8 rfl rfl)
theorem dX0_init_9 : decode cX0_init 9 = .ok (.invokespecial 9, 3) := dk_183 0 9 (dk_at dksX0_init_0 9 rfl rfl)
theorem dX0_init_12 : decode cX0_init 12 = .ok (.putfield 10, 3) := dk_181 0 10 (dk_at dksX0_init_0 12 rfl rfl)
theorem dX0_init_15 : decode cX0_init 15 = .ok (.aload_n 0, 1) := dk_42 (dk_at dksX0_init_0 15 rfl rfl)
theorem dX0_init_16 : decode cX0_init 16 = .ok (.bipush 8, 2) := dk_16 8 (dk_at dksX0_init_0 16 rfl rfl)
theorem dX0_init_18 : decode cX0_init 18 = .ok (.anewarray 7, 3) := dk_189 0 7 (dk_at dksX0_init_0 18 rfl rfl)
theorem dX0_init_21 : decode cX0_init 21 = .ok (.putfield 16, 3) := dk_181 0 16 (dk_at dksX0_init_0 21 rfl rfl)
theorem dX0_init_24 : decode cX0_init 24 = .ok (.aload_n 0, 1) := dk_42 (dk_at dksX0_init_1 0 rfl rfl)
theorem dX0_init_25 : decode cX0_init 25 = .ok (.bipush 30, 2) := dk_16 30 (dk_at dksX0_init_1 1 rfl rfl)
theorem dX0_init_27 : decode cX0_init 27 = .ok (.newarray .int, 2) := dk_188_10 (dk_at dksX0_init_1 3 rfl rfl)
theorem dX0_init_29 : decode cX0_init 29 = .ok (.putfield 20, 3) := dk_181 0 20 (dk_at dksX0_init_1 5 rfl rfl)
theorem dX0_init_32 : decode cX0_init 32 = .ok (.aload_n 0, 1) := dk_42 (dk_at dksX0_init_1 8 rfl rfl)
theorem dX0_init_33 : decode cX0_init 33 = .ok (.bipush 30, 2) := dk_16 30 (dk_at dksX0_init_1 9 rfl rfl)
theorem dX0_init_35 : decode cX0_init 35 = .ok (.newarray .int, 2) := dk_188_10 (dk_at dksX0_init_1 11 rfl rfl)
theorem dX0_init_37 : decode cX0_init 37 = .ok (.putfield 24, 3) := dk_181 0 24 (dk_at dksX0_init_1 13 rfl rfl)
theorem dX0_init_40 : decode cX0_init 40 = .ok (.aload_n 0, 1) := dk_42 (dk_at dksX0_init_1 16 rfl rfl)
theorem dX0_init_41 : decode cX0_init 41 = .ok (.bipush 30, 2) := dk_16 30 (dk_at dksX0_init_1 17 rfl rfl)
theorem dX0_init_43 : decode cX0_init 43 = .ok (.newarray .boolean, 2) := dk_188_4 (dk_at dksX0_init_1 19 rfl rfl)
theorem dX0_init_45 : decode cX0_init 45 = .ok (.putfield 27, 3) := dk_181 0 27 (dk_at dksX0_init_1 21 rfl rfl)
theorem dX0_init_48 : decode cX0_init 48 = .ok (.aload_n 0, 1) := dk_42 (dk_at dksX0_init_2 0 rfl rfl)
theorem dX0_init_49 : decode cX0_init 49 = .ok (.bipush 24, 2) := dk_16 24 (dk_at dksX0_init_2 1 rfl rfl)
theorem dX0_init_51 : decode cX0_init 51 = .ok (.newarray .int, 2) := dk_188_10 (dk_at dksX0_init_2 3 rfl rfl)
theorem dX0_init_53 : decode cX0_init 53 = .ok (.putfield 31, 3) := dk_181 0 31 (dk_at dksX0_init_2 5 rfl rfl)
theorem dX0_init_56 : decode cX0_init 56 = .ok (.aload_n 0, 1) := dk_42 (dk_at dksX0_init_2 8 rfl rfl)
theorem dX0_init_57 : decode cX0_init 57 = .ok (.bipush 24, 2) := dk_16 24 (dk_at dksX0_init_2 9 rfl rfl)
theorem dX0_init_59 : decode cX0_init 59 = .ok (.newarray .int, 2) := dk_188_10 (dk_at dksX0_init_2 11 rfl rfl)
theorem dX0_init_61 : decode cX0_init 61 = .ok (.putfield 34, 3) := dk_181 0 34 (dk_at dksX0_init_2 13 rfl rfl)
theorem dX0_init_64 : decode cX0_init 64 = .ok (.aload_n 0, 1) := dk_42 (dk_at dksX0_init_2 16 rfl rfl)
theorem dX0_init_65 : decode cX0_init 65 = .ok (.sipush 576, 3) := dk_17 2 64 (dk_at dksX0_init_2 17 rfl rfl)
theorem dX0_init_68 : decode cX0_init 68 = .ok (.newarray .int, 2) := dk_188_10 (dk_at dksX0_init_2 20 rfl rfl)
theorem dX0_init_70 : decode cX0_init 70 = .ok (.putfield 37, 3) := dk_181 0 37 (dk_at dksX0_init_3 0 rfl rfl)
theorem dX0_init_73 : decode cX0_init 73 = .ok (.aload_n 0, 1) := dk_42 (dk_at dksX0_init_3 3 rfl rfl)
theorem dX0_init_74 : decode cX0_init 74 = .ok (.bipush 6, 2) := dk_16 6 (dk_at dksX0_init_3 4 rfl rfl)
theorem dX0_init_76 : decode cX0_init 76 = .ok (.newarray .int, 2) := dk_188_10 (dk_at dksX0_init_3 6 rfl rfl)
theorem dX0_init_78 : decode cX0_init 78 = .ok (.putfield 40, 3) := dk_181 0 40 (dk_at dksX0_init_3 8 rfl rfl)
theorem dX0_init_81 : decode cX0_init 81 = .ok (.aload_n 0, 1) := dk_42 (dk_at dksX0_init_3 11 rfl rfl)
theorem dX0_init_82 : decode cX0_init 82 = .ok (.bipush 6, 2) := dk_16 6 (dk_at dksX0_init_3 12 rfl rfl)
theorem dX0_init_84 : decode cX0_init 84 = .ok (.newarray .int, 2) := dk_188_10 (dk_at dksX0_init_3 14 rfl rfl)
theorem dX0_init_86 : decode cX0_init 86 = .ok (.putfield 43, 3) := dk_181 0 43 (dk_at dksX0_init_3 16 rfl rfl)
theorem dX0_init_89 : decode cX0_init 89 = .ok (.aload_n 0, 1) := dk_42 (dk_at dksX0_init_3 19 rfl rfl)
theorem dX0_init_90 : decode cX0_init 90 = .ok (.new 46, 3) := dk_187 0 46 (dk_at dksX0_init_3 20 rfl rfl)
theorem dX0_init_93 : decode cX0_init 93 = .ok (.dup, 1) := dk_89 (dk_at dksX0_init_3 23 rfl rfl)
theorem dX0_init_94 : decode cX0_init 94 = .ok (.invokespecial 48, 3) := dk_183 0 48 (dk_at dksX0_init_4 0 rfl rfl)
theorem dX0_init_97 : decode cX0_init 97 = .ok (.putfield 49, 3) := dk_181 0 49 (dk_at dksX0_init_4 3 rfl rfl)
theorem dX0_init_100 : decode cX0_init 100 = .ok (.aload_n 0, 1) := dk_42 (dk_at dksX0_init_4 6 rfl rfl)
theorem dX0_init_101 : decode cX0_init 101 = .ok (.bipush 60, 2) := dk_16 60 (dk_at dksX0_init_4 7 rfl rfl)
theorem dX0_init_103 : decode cX0_init 103 = .ok (.anewarray 53, 3) := dk_189 0 53 (dk_at dksX0_init_4 9 rfl rfl)
theorem dX0_init_106 : decode cX0_init 106 = .ok (.putfield 55, 3) := dk_181 0 55 (dk_at dksX0_init_4 12 rfl rfl)
theorem dX0_init_109 : decode cX0_init 109 = .ok (.aload_n 0, 1) := dk_42 (dk_at dksX0_init_4 15 rfl rfl)
theorem dX0_init_110 : decode cX0_init 110 = .ok (.sipush 240, 3) := dk_17 0 240 (dk_at dksX0_init_4 16 rfl rfl)
theorem dX0_init_113 : decode cX0_init 113 = .ok (.newarray .int, 2) := dk_188_10 (dk_at dksX0_init_4 19 rfl rfl)
theorem dX0_init_115 : decode cX0_init 115 = .ok (.putfield 59, 3) := dk_181 0 59 (dk_at dksX0_init_4 21 rfl rfl)
theorem dX0_init_118 : decode cX0_init 118 = .ok (.return_, 1) := dk_177 (dk_at dksX0_init_5 0 rfl rfl)
abbrev cX0_undo : ByteArray := prog_1_method_9_code
def yX0_undo : MethodName := ⟨RX0, "undo", "()I"⟩
def dkwX0_undo_1 : List UInt8 := [180, 0, 16, 42, 180, 0, 87, 50, 181, 0, 10, 42, 180, 0, 87, 172]
abbrev dktX0_undo_1 : List UInt8 := dkwX0_undo_1 ++ []
def dkwX0_undo_0 : List UInt8 := [42, 180, 0, 87, 154, 0, 6, 16, 254, 172, 42, 89, 180, 0, 87, 4, 100, 181, 0, 87, 42, 42]
abbrev dktX0_undo_0 : List UInt8 := dkwX0_undo_0 ++ dktX0_undo_1
theorem dksX0_undo_0 : cX0_undo.data.toList.drop 0 = dktX0_undo_0 := by decide +kernel
theorem dksX0_undo_1 : cX0_undo.data.toList.drop 22 = dktX0_undo_1 := dk_seg dksX0_undo_0 22 rfl rfl
theorem dX0_undo_0 : decode cX0_undo 0 = .ok (.aload_n 0, 1) := dk_42 (dk_at dksX0_undo_0 0 rfl rfl)
theorem dX0_undo_1 : decode cX0_undo 1 = .ok (.getfield 87, 3) := dk_180 0 87 (dk_at dksX0_undo_0 1 rfl rfl)
theorem dX0_undo_4 : decode cX0_undo 4 = .ok (.ifCond .ne 6, 3) := dk_154 0 6 (dk_at dksX0_undo_0 4 rfl rfl)
theorem dX0_undo_7 : decode cX0_undo 7 = .ok (.bipush (-2), 2) := dk_16 254 (dk_at dksX0_undo_0 7 rfl rfl)
theorem dX0_undo_9 : decode cX0_undo 9 = .ok (.ireturn, 1) := dk_172 (dk_at dksX0_undo_0 9 rfl rfl)
theorem dX0_undo_10 : decode cX0_undo 10 = .ok (.aload_n 0, 1) := dk_42 (dk_at dksX0_undo_0 10 rfl rfl)
theorem dX0_undo_11 : decode cX0_undo 11 = .ok (.dup, 1) := dk_89 (dk_at dksX0_undo_0 11 rfl rfl)
theorem dX0_undo_12 : decode cX0_undo 12 = .ok (.getfield 87, 3) := dk_180 0 87 (dk_at dksX0_undo_0 12 rfl rfl)
theorem dX0_undo_15 : decode cX0_undo 15 = .ok (.iconst 1, 1) := dk_4 (dk_at dksX0_undo_0 15 rfl rfl)
theorem dX0_undo_16 : decode cX0_undo 16 = .ok (.isub, 1) := dk_100 (dk_at dksX0_undo_0 16 rfl rfl)
theorem dX0_undo_17 : decode cX0_undo 17 = .ok (.putfield 87, 3) := dk_181 0 87 (dk_at dksX0_undo_0 17 rfl rfl)
theorem dX0_undo_20 : decode cX0_undo 20 = .ok (.aload_n 0, 1) := dk_42 (dk_at dksX0_undo_0 20 rfl rfl)
theorem dX0_undo_21 : decode cX0_undo 21 = .ok (.aload_n 0, 1) := dk_42 (dk_at dksX0_undo_0 21 rfl rfl)
theorem dX0_undo_22 : decode cX0_undo 22 = .ok (.getfield 16, 3) := dk_180 0 16 (dk_at dksX0_undo_1 0 rfl rfl)
theorem dX0_undo_25 : decode cX0_undo 25 = .ok (.aload_n 0, 1) := dk_42 (dk_at dksX0_undo_1 3 rfl rfl)
theorem dX0_undo_26 : decode cX0_undo 26 = .ok (.getfield 87, 3) := dk_180 0 87 (dk_at dksX0_undo_1 4 rfl rfl)
theorem dX0_undo_29 : decode cX0_undo 29 = .ok (.aaload, 1) := dk_50 (dk_at dksX0_undo_1 7 rfl rfl)
theorem dX0_undo_30 : decode cX0_undo 30 = .ok (.putfield 10, 3) := dk_181 0 10 (dk_at dksX0_undo_1 8 rfl rfl)
theorem dX0_undo_33 : decode cX0_undo 33 = .ok (.aload_n 0, 1) := dk_42 (dk_at dksX0_undo_1 11 rfl rfl)
theorem dX0_undo_34 : decode cX0_undo 34 = .ok (.getfield 87, 3) := dk_180 0 87 (dk_at dksX0_undo_1 12 rfl rfl)
theorem dX0_undo_37 : decode cX0_undo 37 = .ok (.ireturn, 1) := dk_172 (dk_at dksX0_undo_1 15 rfl rfl)
abbrev cX0_save : ByteArray := prog_1_method_10_code
def yX0_save : MethodName := ⟨RX0, "save", "()I"⟩
def dkwX0_save_0 : List UInt8 := [42, 42, 180, 0, 10, 182, 0, 101, 181, 0, 109, 42, 180, 0, 10, 180, 0, 62, 182, 0, 66, 172]
abbrev dktX0_save_0 : List UInt8 := dkwX0_save_0 ++ []
theorem dksX0_save_0 : cX0_save.data.toList.drop 0 = dktX0_save_0 := by decide +kernel
theorem dX0_save_0 : decode cX0_save 0 = .ok (.aload_n 0, 1) := dk_42 (dk_at dksX0_save_0 0 rfl rfl)
theorem dX0_save_1 : decode cX0_save 1 = .ok (.aload_n 0, 1) := dk_42 (dk_at dksX0_save_0 1 rfl rfl)
theorem dX0_save_2 : decode cX0_save 2 = .ok (.getfield 10, 3) := dk_180 0 10 (dk_at dksX0_save_0 2 rfl rfl)
theorem dX0_save_5 : decode cX0_save 5 = .ok (.invokevirtual 101, 3) := dk_182 0 101 (dk_at dksX0_save_0 5 rfl rfl)
theorem dX0_save_8 : decode cX0_save 8 = .ok (.putfield 109, 3) := dk_181 0 109 (dk_at dksX0_save_0 8 rfl rfl)
theorem dX0_save_11 : decode cX0_save 11 = .ok (.aload_n 0, 1) := dk_42 (dk_at dksX0_save_0 11 rfl rfl)
theorem dX0_save_12 : decode cX0_save 12 = .ok (.getfield 10, 3) := dk_180 0 10 (dk_at dksX0_save_0 12 rfl rfl)
theorem dX0_save_15 : decode cX0_save 15 = .ok (.getfield 62, 3) := dk_180 0 62 (dk_at dksX0_save_0 15 rfl rfl)
theorem dX0_save_18 : decode cX0_save 18 = .ok (.invokevirtual 66, 3) := dk_182 0 66 (dk_at dksX0_save_0 18 rfl rfl)
theorem dX0_save_21 : decode cX0_save 21 = .ok (.ireturn, 1) := dk_172 (dk_at dksX0_save_0 21 rfl rfl)
abbrev cX0_restore : ByteArray := prog_1_method_11_code
def yX0_restore : MethodName := ⟨RX0, "restore", "()I"⟩
def dkwX0_restore_1 : List UInt8 := [181, 0, 10, 42, 180, 0, 10, 180, 0, 62, 182, 0, 66, 172]
abbrev dktX0_restore_1 : List UInt8 := dkwX0_restore_1 ++ []
def dkwX0_restore_0 : List UInt8 := [42, 180, 0, 109, 199, 0, 6, 16, 254, 172, 42, 182, 0, 112, 42, 42, 180, 0, 109, 182, 0, 101]
abbrev dktX0_restore_0 : List UInt8 := dkwX0_restore_0 ++ dktX0_restore_1
theorem dksX0_restore_0 : cX0_restore.data.toList.drop 0 = dktX0_restore_0 := by decide +kernel
theorem dksX0_restore_1 : cX0_restore.data.toList.drop 22 = dktX0_restore_1 := dk_seg dksX0_restore_0 22 rfl rfl
theorem dX0_restore_0 : decode cX0_restore 0 = .ok (.aload_n 0, 1) := dk_42 (dk_at dksX0_restore_0 0 rfl rfl)
theorem dX0_restore_1 : decode cX0_restore 1 = .ok (.getfield 109, 3) := dk_180 0 109 (dk_at dksX0_restore_0 1 rfl rfl)
theorem dX0_restore_4 : decode cX0_restore 4 = .ok (.ifnonnull 6, 3) := dk_199 0 6 (dk_at dksX0_restore_0 4 rfl rfl)
theorem dX0_restore_7 : decode cX0_restore 7 = .ok (.bipush (-2), 2) := dk_16 254 (dk_at dksX0_restore_0 7 rfl rfl)
theorem dX0_restore_9 : decode cX0_restore 9 = .ok (.ireturn, 1) := dk_172 (dk_at dksX0_restore_0 9 rfl rfl)
theorem dX0_restore_10 : decode cX0_restore 10 = .ok (.aload_n 0, 1) := dk_42 (dk_at dksX0_restore_0 10 rfl rfl)
theorem dX0_restore_11 : decode cX0_restore 11 = .ok (.invokevirtual 112, 3) := dk_182 0 112 (dk_at dksX0_restore_0 11 rfl rfl)
theorem dX0_restore_14 : decode cX0_restore 14 = .ok (.aload_n 0, 1) := dk_42 (dk_at dksX0_restore_0 14 rfl rfl)
theorem dX0_restore_15 : decode cX0_restore 15 = .ok (.aload_n 0, 1) := dk_42 (dk_at dksX0_restore_0 15 rfl rfl)
theorem dX0_restore_16 : decode cX0_restore 16 = .ok (.getfield 109, 3) := dk_180 0 109 (dk_at dksX0_restore_0 16 rfl rfl)
theorem dX0_restore_19 : decode cX0_restore 19 = .ok (.invokevirtual 101, 3) := dk_182 0 101 (dk_at dksX0_restore_0 19 rfl rfl)
theorem dX0_restore_22 : decode cX0_restore 22 = .ok (.putfield 10, 3) := dk_181 0 10 (dk_at dksX0_restore_1 0 rfl rfl)
theorem dX0_restore_25 : decode cX0_restore 25 = .ok (.aload_n 0, 1) := dk_42 (dk_at dksX0_restore_1 3 rfl rfl)
theorem dX0_restore_26 : decode cX0_restore 26 = .ok (.getfield 10, 3) := dk_180 0 10 (dk_at dksX0_restore_1 4 rfl rfl)
theorem dX0_restore_29 : decode cX0_restore 29 = .ok (.getfield 62, 3) := dk_180 0 62 (dk_at dksX0_restore_1 7 rfl rfl)
theorem dX0_restore_32 : decode cX0_restore 32 = .ok (.invokevirtual 66, 3) := dk_182 0 66 (dk_at dksX0_restore_1 10 rfl rfl)
theorem dX0_restore_35 : decode cX0_restore 35 = .ok (.ireturn, 1) := dk_172 (dk_at dksX0_restore_1 13 rfl rfl)
abbrev cX0_beginChange : ByteArray := prog_1_method_8_code
def yX0_beginChange : MethodName := ⟨RX0, "beginChange", "()V"⟩
def dkwX0_beginChange_0 : List UInt8 := [42, 180, 0, 97, 154, 0, 14, 42, 42, 180, 0, 10, 182, 0, 101, 182, 0, 105, 177]
abbrev dktX0_beginChange_0 : List UInt8 := dkwX0_beginChange_0 ++ []
theorem dksX0_beginChange_0 : cX0_beginChange.data.toList.drop 0 = dktX0_beginChange_0 := by decide +kernel
theorem dX0_beginChange_0 : decode cX0_beginChange 0 = .ok (.aload_n 0, 1) := dk_42 (dk_at dksX0_beginChange_0 0 rfl rfl)
theorem dX0_beginChange_1 : decode cX0_beginChange 1 = .ok (.getfield 97, 3) := dk_180 0 97 (dk_at dksX0_beginChange_0 1 rfl rfl)
theorem dX0_beginChange_4 : decode cX0_beginChange 4 = .ok (.ifCond .ne 14, 3) := dk_154 0 14 (dk_at dksX0_beginChange_0 4 rfl rfl)
theorem dX0_beginChange_7 : decode cX0_beginChange 7 = .ok (.aload_n 0, 1) := dk_42 (dk_at dksX0_beginChange_0 7 rfl rfl)
theorem dX0_beginChange_8 : decode cX0_beginChange 8 = .ok (.aload_n 0, 1) := dk_42 (dk_at dksX0_beginChange_0 8 rfl rfl)
theorem dX0_beginChange_9 : decode cX0_beginChange 9 = .ok (.getfield 10, 3) := dk_180 0 10 (dk_at dksX0_beginChange_0 9 rfl rfl)
theorem dX0_beginChange_12 : decode cX0_beginChange 12 = .ok (.invokevirtual 101, 3) := dk_182 0 101 (dk_at dksX0_beginChange_0 12 rfl rfl)
theorem dX0_beginChange_15 : decode cX0_beginChange 15 = .ok (.invokevirtual 105, 3) := dk_182 0 105 (dk_at dksX0_beginChange_0 15 rfl rfl)
theorem dX0_beginChange_18 : decode cX0_beginChange 18 = .ok (.return_, 1) := dk_177 (dk_at dksX0_beginChange_0 18 rfl rfl)
abbrev cX0_keep : ByteArray := prog_1_method_7_code
def yX0_keep : MethodName := ⟨RX0, "keep", "(LCrewPairer$State;)V"⟩
def dkwX0_keep_2 : List UInt8 := [180, 0, 87, 4, 96, 181, 0, 87, 177]
abbrev dktX0_keep_2 : List UInt8 := dkwX0_keep_2 ++ []
def dkwX0_keep_1 : List UInt8 := [42, 89, 180, 0, 87, 4, 100, 181, 0, 87, 42, 180, 0, 16, 42, 180, 0, 87, 43, 83, 42, 89]
abbrev dktX0_keep_1 : List UInt8 := dkwX0_keep_1 ++ dktX0_keep_2
def dkwX0_keep_0 : List UInt8 := [42, 180, 0, 87, 16, 8, 160, 0, 28, 42, 180, 0, 16, 4, 42, 180, 0, 16, 3, 16, 7, 184, 0, 91]
abbrev dktX0_keep_0 : List UInt8 := dkwX0_keep_0 ++ dktX0_keep_1
theorem dksX0_keep_0 : cX0_keep.data.toList.drop 0 = dktX0_keep_0 := by decide +kernel
theorem dksX0_keep_1 : cX0_keep.data.toList.drop 24 = dktX0_keep_1 := dk_seg dksX0_keep_0 24 rfl rfl
theorem dksX0_keep_2 : cX0_keep.data.toList.drop 46 = dktX0_keep_2 := dk_seg dksX0_keep_1 22 rfl rfl
theorem dX0_keep_0 : decode cX0_keep 0 = .ok (.aload_n 0, 1) := dk_42 (dk_at dksX0_keep_0 0 rfl rfl)
theorem dX0_keep_1 : decode cX0_keep 1 = .ok (.getfield 87, 3) := dk_180 0 87 (dk_at dksX0_keep_0 1 rfl rfl)
theorem dX0_keep_4 : decode cX0_keep 4 = .ok (.bipush 8, 2) := dk_16 8 (dk_at dksX0_keep_0 4 rfl rfl)
theorem dX0_keep_6 : decode cX0_keep 6 = .ok (.if_icmp .ne 28, 3) := dk_160 0 28 (dk_at dksX0_keep_0 6 rfl rfl)
theorem dX0_keep_9 : decode cX0_keep 9 = .ok (.aload_n 0, 1) := dk_42 (dk_at dksX0_keep_0 9 rfl rfl)
theorem dX0_keep_10 : decode cX0_keep 10 = .ok (.getfield 16, 3) := dk_180 0 16 (dk_at dksX0_keep_0 10 rfl rfl)
theorem dX0_keep_13 : decode cX0_keep 13 = .ok (.iconst 1, 1) := dk_4 (dk_at dksX0_keep_0 13 rfl rfl)
theorem dX0_keep_14 : decode cX0_keep 14 = .ok (.aload_n 0, 1) := dk_42 (dk_at dksX0_keep_0 14 rfl rfl)
theorem dX0_keep_15 : decode cX0_keep 15 = .ok (.getfield 16, 3) := dk_180 0 16 (dk_at dksX0_keep_0 15 rfl rfl)
theorem dX0_keep_18 : decode cX0_keep 18 = .ok (.iconst 0, 1) := dk_3 (dk_at dksX0_keep_0 18 rfl rfl)
theorem dX0_keep_19 : decode cX0_keep 19 = .ok (.bipush 7, 2) := dk_16 7 (dk_at dksX0_keep_0 19 rfl rfl)
theorem dX0_keep_21 : decode cX0_keep 21 = .ok (.invokestatic 91, 3) := dk_184 0 91 (dk_at dksX0_keep_0 21 rfl rfl)
theorem dX0_keep_24 : decode cX0_keep 24 = .ok (.aload_n 0, 1) := dk_42 (dk_at dksX0_keep_1 0 rfl rfl)
theorem dX0_keep_25 : decode cX0_keep 25 = .ok (.dup, 1) := dk_89 (dk_at dksX0_keep_1 1 rfl rfl)
theorem dX0_keep_26 : decode cX0_keep 26 = .ok (.getfield 87, 3) := dk_180 0 87 (dk_at dksX0_keep_1 2 rfl rfl)
theorem dX0_keep_29 : decode cX0_keep 29 = .ok (.iconst 1, 1) := dk_4 (dk_at dksX0_keep_1 5 rfl rfl)
theorem dX0_keep_30 : decode cX0_keep 30 = .ok (.isub, 1) := dk_100 (dk_at dksX0_keep_1 6 rfl rfl)
theorem dX0_keep_31 : decode cX0_keep 31 = .ok (.putfield 87, 3) := dk_181 0 87 (dk_at dksX0_keep_1 7 rfl rfl)
theorem dX0_keep_34 : decode cX0_keep 34 = .ok (.aload_n 0, 1) := dk_42 (dk_at dksX0_keep_1 10 rfl rfl)
theorem dX0_keep_35 : decode cX0_keep 35 = .ok (.getfield 16, 3) := dk_180 0 16 (dk_at dksX0_keep_1 11 rfl rfl)
theorem dX0_keep_38 : decode cX0_keep 38 = .ok (.aload_n 0, 1) := dk_42 (dk_at dksX0_keep_1 14 rfl rfl)
theorem dX0_keep_39 : decode cX0_keep 39 = .ok (.getfield 87, 3) := dk_180 0 87 (dk_at dksX0_keep_1 15 rfl rfl)
theorem dX0_keep_42 : decode cX0_keep 42 = .ok (.aload_n 1, 1) := dk_43 (dk_at dksX0_keep_1 18 rfl rfl)
theorem dX0_keep_43 : decode cX0_keep 43 = .ok (.aastore, 1) := dk_83 (dk_at dksX0_keep_1 19 rfl rfl)
theorem dX0_keep_44 : decode cX0_keep 44 = .ok (.aload_n 0, 1) := dk_42 (dk_at dksX0_keep_1 20 rfl rfl)
theorem dX0_keep_45 : decode cX0_keep 45 = .ok (.dup, 1) := dk_89 (dk_at dksX0_keep_1 21 rfl rfl)
theorem dX0_keep_46 : decode cX0_keep 46 = .ok (.getfield 87, 3) := dk_180 0 87 (dk_at dksX0_keep_2 0 rfl rfl)
theorem dX0_keep_49 : decode cX0_keep 49 = .ok (.iconst 1, 1) := dk_4 (dk_at dksX0_keep_2 3 rfl rfl)
theorem dX0_keep_50 : decode cX0_keep 50 = .ok (.iadd, 1) := dk_96 (dk_at dksX0_keep_2 4 rfl rfl)
theorem dX0_keep_51 : decode cX0_keep 51 = .ok (.putfield 87, 3) := dk_181 0 87 (dk_at dksX0_keep_2 5 rfl rfl)
theorem dX0_keep_54 : decode cX0_keep 54 = .ok (.return_, 1) := dk_177 (dk_at dksX0_keep_2 8 rfl rfl)
abbrev cX0_addLeg : ByteArray := prog_1_method_13_code
def yX0_addLeg : MethodName := ⟨RX0, "addLeg", "(IIII)I"⟩
def dkwX0_addLeg_6 : List UInt8 := [180, 0, 10, 180, 0, 62, 182, 0, 66, 4, 100, 172]
abbrev dktX0_addLeg_6 : List UInt8 := dkwX0_addLeg_6 ++ []
def dkwX0_addLeg_5 : List UInt8 := [180, 0, 10, 180, 0, 62, 187, 0, 83, 89, 27, 28, 29, 21, 4, 183, 0, 153, 182, 0, 156, 87, 42]
abbrev dktX0_addLeg_5 : List UInt8 := dkwX0_addLeg_5 ++ dktX0_addLeg_6
def dkwX0_addLeg_4 : List UInt8 := [180, 0, 10, 180, 0, 62, 182, 0, 66, 16, 24, 160, 0, 6, 16, 253, 172, 42, 182, 0, 112, 42]
abbrev dktX0_addLeg_4 : List UInt8 := dkwX0_addLeg_4 ++ dktX0_addLeg_5
def dkwX0_addLeg_3 : List UInt8 := [182, 0, 146, 187, 0, 122, 89, 27, 28, 29, 183, 0, 133, 182, 0, 150, 153, 0, 6, 16, 252, 172, 42]
abbrev dktX0_addLeg_3 : List UInt8 := dkwX0_addLeg_3 ++ dktX0_addLeg_4
def dkwX0_addLeg_2 : List UInt8 := [29, 4, 96, 17, 23, 111, 29, 17, 2, 88, 96, 184, 0, 140, 184, 0, 72, 154, 0, 5, 2, 172, 42, 2]
abbrev dktX0_addLeg_2 : List UInt8 := dkwX0_addLeg_2 ++ dktX0_addLeg_3
def dkwX0_addLeg_1 : List UInt8 := [3, 17, 23, 111, 184, 0, 72, 153, 0, 7, 4, 167, 0, 4, 3, 54, 5, 21, 5, 153, 0, 25, 21, 4]
abbrev dktX0_addLeg_1 : List UInt8 := dkwX0_addLeg_1 ++ dktX0_addLeg_2
def dkwX0_addLeg_0 : List UInt8 := [27, 3, 8, 184, 0, 72, 153, 0, 32, 28, 3, 8, 184, 0, 72, 153, 0, 23, 27, 28, 159, 0, 18, 29]
abbrev dktX0_addLeg_0 : List UInt8 := dkwX0_addLeg_0 ++ dktX0_addLeg_1
theorem dksX0_addLeg_0 : cX0_addLeg.data.toList.drop 0 = dktX0_addLeg_0 := by decide +kernel
theorem dksX0_addLeg_1 : cX0_addLeg.data.toList.drop 24 = dktX0_addLeg_1 := dk_seg dksX0_addLeg_0 24 rfl rfl
theorem dksX0_addLeg_2 : cX0_addLeg.data.toList.drop 48 = dktX0_addLeg_2 := dk_seg dksX0_addLeg_1 24 rfl rfl
theorem dksX0_addLeg_3 : cX0_addLeg.data.toList.drop 72 = dktX0_addLeg_3 := dk_seg dksX0_addLeg_2 24 rfl rfl
theorem dksX0_addLeg_4 : cX0_addLeg.data.toList.drop 95 = dktX0_addLeg_4 := dk_seg dksX0_addLeg_3 23 rfl rfl
theorem dksX0_addLeg_5 : cX0_addLeg.data.toList.drop 117 = dktX0_addLeg_5 := dk_seg dksX0_addLeg_4 22 rfl rfl
theorem dksX0_addLeg_6 : cX0_addLeg.data.toList.drop 140 = dktX0_addLeg_6 := dk_seg dksX0_addLeg_5 23 rfl rfl
theorem dX0_addLeg_0 : decode cX0_addLeg 0 = .ok (.iload_n 1, 1) := dk_27 (dk_at dksX0_addLeg_0 0 rfl rfl)
theorem dX0_addLeg_1 : decode cX0_addLeg 1 = .ok (.iconst 0, 1) := dk_3 (dk_at dksX0_addLeg_0 1 rfl rfl)
theorem dX0_addLeg_2 : decode cX0_addLeg 2 = .ok (.iconst 5, 1) := dk_8 (dk_at dksX0_addLeg_0 2 rfl rfl)
theorem dX0_addLeg_3 : decode cX0_addLeg 3 = .ok (.invokestatic 72, 3) := dk_184 0 72 (dk_at dksX0_addLeg_0 3 rfl rfl)
theorem dX0_addLeg_6 : decode cX0_addLeg 6 = .ok (.ifCond .eq 32, 3) := dk_153 0 32 (dk_at dksX0_addLeg_0 6 rfl rfl)
theorem dX0_addLeg_9 : decode cX0_addLeg 9 = .ok (.iload_n 2, 1) := dk_28 (dk_at dksX0_addLeg_0 9 rfl rfl)
theorem dX0_addLeg_10 : decode cX0_addLeg 10 = .ok (.iconst 0, 1) := dk_3 (dk_at dksX0_addLeg_0 10 rfl rfl)
theorem dX0_addLeg_11 : decode cX0_addLeg 11 = .ok (.iconst 5, 1) := dk_8 (dk_at dksX0_addLeg_0 11 rfl rfl)
theorem dX0_addLeg_12 : decode cX0_addLeg 12 = .ok (.invokestatic 72, 3) := dk_184 0 72 (dk_at dksX0_addLeg_0 12 rfl rfl)
theorem dX0_addLeg_15 : decode cX0_addLeg 15 = .ok (.ifCond .eq 23, 3) := dk_153 0 23 (dk_at dksX0_addLeg_0 15 rfl rfl)
theorem dX0_addLeg_18 : decode cX0_addLeg 18 = .ok (.iload_n 1, 1) := dk_27 (dk_at dksX0_addLeg_0 18 rfl rfl)
theorem dX0_addLeg_19 : decode cX0_addLeg 19 = .ok (.iload_n 2, 1) := dk_28 (dk_at dksX0_addLeg_0 19 rfl rfl)
theorem dX0_addLeg_20 : decode cX0_addLeg 20 = .ok (.if_icmp .eq 18, 3) := dk_159 0 18 (dk_at dksX0_addLeg_0 20 rfl rfl)
theorem dX0_addLeg_23 : decode cX0_addLeg 23 = .ok (.iload_n 3, 1) := dk_29 (dk_at dksX0_addLeg_0 23 rfl rfl)
theorem dX0_addLeg_24 : decode cX0_addLeg 24 = .ok (.iconst 0, 1) := dk_3 (dk_at dksX0_addLeg_1 0 rfl rfl)
theorem dX0_addLeg_25 : decode cX0_addLeg 25 = .ok (.sipush 5999, 3) := dk_17 23 111 (dk_at dksX0_addLeg_1 1 rfl rfl)
theorem dX0_addLeg_28 : decode cX0_addLeg 28 = .ok (.invokestatic 72, 3) := dk_184 0 72 (dk_at dksX0_addLeg_1 4 rfl rfl)
theorem dX0_addLeg_31 : decode cX0_addLeg 31 = .ok (.ifCond .eq 7, 3) := dk_153 0 7 (dk_at dksX0_addLeg_1 7 rfl rfl)
theorem dX0_addLeg_34 : decode cX0_addLeg 34 = .ok (.iconst 1, 1) := dk_4 (dk_at dksX0_addLeg_1 10 rfl rfl)
theorem dX0_addLeg_35 : decode cX0_addLeg 35 = .ok (.goto 4, 3) := dk_167 0 4 (dk_at dksX0_addLeg_1 11 rfl rfl)
theorem dX0_addLeg_38 : decode cX0_addLeg 38 = .ok (.iconst 0, 1) := dk_3 (dk_at dksX0_addLeg_1 14 rfl rfl)
theorem dX0_addLeg_39 : decode cX0_addLeg 39 = .ok (.istore 5, 2) := dk_54 5 (dk_at dksX0_addLeg_1 15 rfl rfl)
theorem dX0_addLeg_41 : decode cX0_addLeg 41 = .ok (.iload 5, 2) := dk_21 5 (dk_at dksX0_addLeg_1 17 rfl rfl)
theorem dX0_addLeg_43 : decode cX0_addLeg 43 = .ok (.ifCond .eq 25, 3) := dk_153 0 25 (dk_at dksX0_addLeg_1 19 rfl rfl)
theorem dX0_addLeg_46 : decode cX0_addLeg 46 = .ok (.iload 4, 2) := dk_21 4 (dk_at dksX0_addLeg_1 22 rfl rfl)
theorem dX0_addLeg_48 : decode cX0_addLeg 48 = .ok (.iload_n 3, 1) := dk_29 (dk_at dksX0_addLeg_2 0 rfl rfl)
theorem dX0_addLeg_49 : decode cX0_addLeg 49 = .ok (.iconst 1, 1) := dk_4 (dk_at dksX0_addLeg_2 1 rfl rfl)
theorem dX0_addLeg_50 : decode cX0_addLeg 50 = .ok (.iadd, 1) := dk_96 (dk_at dksX0_addLeg_2 2 rfl rfl)
theorem dX0_addLeg_51 : decode cX0_addLeg 51 = .ok (.sipush 5999, 3) := dk_17 23 111 (dk_at dksX0_addLeg_2 3 rfl rfl)
theorem dX0_addLeg_54 : decode cX0_addLeg 54 = .ok (.iload_n 3, 1) := dk_29 (dk_at dksX0_addLeg_2 6 rfl rfl)
theorem dX0_addLeg_55 : decode cX0_addLeg 55 = .ok (.sipush 600, 3) := dk_17 2 88 (dk_at dksX0_addLeg_2 7 rfl rfl)
theorem dX0_addLeg_58 : decode cX0_addLeg 58 = .ok (.iadd, 1) := dk_96 (dk_at dksX0_addLeg_2 10 rfl rfl)
theorem dX0_addLeg_59 : decode cX0_addLeg 59 = .ok (.invokestatic 140, 3) := dk_184 0 140 (dk_at dksX0_addLeg_2 11 rfl rfl)
theorem dX0_addLeg_62 : decode cX0_addLeg 62 = .ok (.invokestatic 72, 3) := dk_184 0 72 (dk_at dksX0_addLeg_2 14 rfl rfl)
theorem dX0_addLeg_65 : decode cX0_addLeg 65 = .ok (.ifCond .ne 5, 3) := dk_154 0 5 (dk_at dksX0_addLeg_2 17 rfl rfl)
theorem dX0_addLeg_68 : decode cX0_addLeg 68 = .ok (.iconst (-1), 1) := dk_2 (dk_at dksX0_addLeg_2 20 rfl rfl)
theorem dX0_addLeg_69 : decode cX0_addLeg 69 = .ok (.ireturn, 1) := dk_172 (dk_at dksX0_addLeg_2 21 rfl rfl)
theorem dX0_addLeg_70 : decode cX0_addLeg 70 = .ok (.aload_n 0, 1) := dk_42 (dk_at dksX0_addLeg_2 22 rfl rfl)
theorem dX0_addLeg_71 : decode cX0_addLeg 71 = .ok (.iconst (-1), 1) := dk_2 (dk_at dksX0_addLeg_2 23 rfl rfl)
theorem dX0_addLeg_72 : decode cX0_addLeg 72 = .ok (.invokevirtual 146, 3) := dk_182 0 146 (dk_at dksX0_addLeg_3 0 rfl rfl)
theorem dX0_addLeg_75 : decode cX0_addLeg 75 = .ok (.new 122, 3) := dk_187 0 122 (dk_at dksX0_addLeg_3 3 rfl rfl)
theorem dX0_addLeg_78 : decode cX0_addLeg 78 = .ok (.dup, 1) := dk_89 (dk_at dksX0_addLeg_3 6 rfl rfl)
theorem dX0_addLeg_79 : decode cX0_addLeg 79 = .ok (.iload_n 1, 1) := dk_27 (dk_at dksX0_addLeg_3 7 rfl rfl)
theorem dX0_addLeg_80 : decode cX0_addLeg 80 = .ok (.iload_n 2, 1) := dk_28 (dk_at dksX0_addLeg_3 8 rfl rfl)
theorem dX0_addLeg_81 : decode cX0_addLeg 81 = .ok (.iload_n 3, 1) := dk_29 (dk_at dksX0_addLeg_3 9 rfl rfl)
theorem dX0_addLeg_82 : decode cX0_addLeg 82 = .ok (.invokespecial 133, 3) := dk_183 0 133 (dk_at dksX0_addLeg_3 10 rfl rfl)
theorem dX0_addLeg_85 : decode cX0_addLeg 85 = .ok (.invokevirtual 150, 3) := dk_182 0 150 (dk_at dksX0_addLeg_3 13 rfl rfl)
theorem dX0_addLeg_88 : decode cX0_addLeg 88 = .ok (.ifCond .eq 6, 3) := dk_153 0 6 (dk_at dksX0_addLeg_3 16 rfl rfl)
theorem dX0_addLeg_91 : decode cX0_addLeg 91 = .ok (.bipush (-4), 2) := dk_16 252 (dk_at dksX0_addLeg_3 19 rfl rfl)
theorem dX0_addLeg_93 : decode cX0_addLeg 93 = .ok (.ireturn, 1) := dk_172 (dk_at dksX0_addLeg_3 21 rfl rfl)
theorem dX0_addLeg_94 : decode cX0_addLeg 94 = .ok (.aload_n 0, 1) := dk_42 (dk_at dksX0_addLeg_3 22 rfl rfl)
theorem dX0_addLeg_95 : decode cX0_addLeg 95 = .ok (.getfield 10, 3) := dk_180 0 10 (dk_at dksX0_addLeg_4 0 rfl rfl)
theorem dX0_addLeg_98 : decode cX0_addLeg 98 = .ok (.getfield 62, 3) := dk_180 0 62 (dk_at dksX0_addLeg_4 3 rfl rfl)
theorem dX0_addLeg_101 : decode cX0_addLeg 101 = .ok (.invokevirtual 66, 3) := dk_182 0 66 (dk_at dksX0_addLeg_4 6 rfl rfl)
theorem dX0_addLeg_104 : decode cX0_addLeg 104 = .ok (.bipush 24, 2) := dk_16 24 (dk_at dksX0_addLeg_4 9 rfl rfl)
theorem dX0_addLeg_106 : decode cX0_addLeg 106 = .ok (.if_icmp .ne 6, 3) := dk_160 0 6 (dk_at dksX0_addLeg_4 11 rfl rfl)
theorem dX0_addLeg_109 : decode cX0_addLeg 109 = .ok (.bipush (-3), 2) := dk_16 253 (dk_at dksX0_addLeg_4 14 rfl rfl)
theorem dX0_addLeg_111 : decode cX0_addLeg 111 = .ok (.ireturn, 1) := dk_172 (dk_at dksX0_addLeg_4 16 rfl rfl)
theorem dX0_addLeg_112 : decode cX0_addLeg 112 = .ok (.aload_n 0, 1) := dk_42 (dk_at dksX0_addLeg_4 17 rfl rfl)
theorem dX0_addLeg_113 : decode cX0_addLeg 113 = .ok (.invokevirtual 112, 3) := dk_182 0 112 (dk_at dksX0_addLeg_4 18 rfl rfl)
theorem dX0_addLeg_116 : decode cX0_addLeg 116 = .ok (.aload_n 0, 1) := dk_42 (dk_at dksX0_addLeg_4 21 rfl rfl)
theorem dX0_addLeg_117 : decode cX0_addLeg 117 = .ok (.getfield 10, 3) := dk_180 0 10 (dk_at dksX0_addLeg_5 0 rfl rfl)
theorem dX0_addLeg_120 : decode cX0_addLeg 120 = .ok (.getfield 62, 3) := dk_180 0 62 (dk_at dksX0_addLeg_5 3 rfl rfl)
theorem dX0_addLeg_123 : decode cX0_addLeg 123 = .ok (.new 83, 3) := dk_187 0 83 (dk_at dksX0_addLeg_5 6 rfl rfl)
theorem dX0_addLeg_126 : decode cX0_addLeg 126 = .ok (.dup, 1) := dk_89 (dk_at dksX0_addLeg_5 9 rfl rfl)
theorem dX0_addLeg_127 : decode cX0_addLeg 127 = .ok (.iload_n 1, 1) := dk_27 (dk_at dksX0_addLeg_5 10 rfl rfl)
theorem dX0_addLeg_128 : decode cX0_addLeg 128 = .ok (.iload_n 2, 1) := dk_28 (dk_at dksX0_addLeg_5 11 rfl rfl)
theorem dX0_addLeg_129 : decode cX0_addLeg 129 = .ok (.iload_n 3, 1) := dk_29 (dk_at dksX0_addLeg_5 12 rfl rfl)
theorem dX0_addLeg_130 : decode cX0_addLeg 130 = .ok (.iload 4, 2) := dk_21 4 (dk_at dksX0_addLeg_5 13 rfl rfl)
theorem dX0_addLeg_132 : decode cX0_addLeg 132 = .ok (.invokespecial 153, 3) := dk_183 0 153 (dk_at dksX0_addLeg_5 15 rfl rfl)
theorem dX0_addLeg_135 : decode cX0_addLeg 135 = .ok (.invokevirtual 156, 3) := dk_182 0 156 (dk_at dksX0_addLeg_5 18 rfl rfl)
theorem dX0_addLeg_138 : decode cX0_addLeg 138 = .ok (.pop, 1) := dk_87 (dk_at dksX0_addLeg_5 21 rfl rfl)
theorem dX0_addLeg_139 : decode cX0_addLeg 139 = .ok (.aload_n 0, 1) := dk_42 (dk_at dksX0_addLeg_5 22 rfl rfl)
theorem dX0_addLeg_140 : decode cX0_addLeg 140 = .ok (.getfield 10, 3) := dk_180 0 10 (dk_at dksX0_addLeg_6 0 rfl rfl)
theorem dX0_addLeg_143 : decode cX0_addLeg 143 = .ok (.getfield 62, 3) := dk_180 0 62 (dk_at dksX0_addLeg_6 3 rfl rfl)
theorem dX0_addLeg_146 : decode cX0_addLeg 146 = .ok (.invokevirtual 66, 3) := dk_182 0 66 (dk_at dksX0_addLeg_6 6 rfl rfl)
theorem dX0_addLeg_149 : decode cX0_addLeg 149 = .ok (.iconst 1, 1) := dk_4 (dk_at dksX0_addLeg_6 9 rfl rfl)
theorem dX0_addLeg_150 : decode cX0_addLeg 150 = .ok (.isub, 1) := dk_100 (dk_at dksX0_addLeg_6 10 rfl rfl)
theorem dX0_addLeg_151 : decode cX0_addLeg 151 = .ok (.ireturn, 1) := dk_172 (dk_at dksX0_addLeg_6 11 rfl rfl)
abbrev cX0_isBetween : ByteArray := prog_1_method_1_code
def yX0_isBetween : MethodName := ⟨RX0, "isBetween", "(III)Z"⟩
def dkwX0_isBetween_0 : List UInt8 := [26, 27, 161, 0, 12, 26, 28, 163, 0, 7, 4, 167, 0, 4, 3, 172]
abbrev dktX0_isBetween_0 : List UInt8 := dkwX0_isBetween_0 ++ []
theorem dksX0_isBetween_0 : cX0_isBetween.data.toList.drop 0 = dktX0_isBetween_0 := by decide +kernel
theorem dX0_isBetween_0 : decode cX0_isBetween 0 = .ok (.iload_n 0, 1) := dk_26 (dk_at dksX0_isBetween_0 0 rfl rfl)
theorem dX0_isBetween_1 : decode cX0_isBetween 1 = .ok (.iload_n 1, 1) := dk_27 (dk_at dksX0_isBetween_0 1 rfl rfl)
theorem dX0_isBetween_2 : decode cX0_isBetween 2 = .ok (.if_icmp .lt 12, 3) := dk_161 0 12 (dk_at dksX0_isBetween_0 2 rfl rfl)
theorem dX0_isBetween_5 : decode cX0_isBetween 5 = .ok (.iload_n 0, 1) := dk_26 (dk_at dksX0_isBetween_0 5 rfl rfl)
theorem dX0_isBetween_6 : decode cX0_isBetween 6 = .ok (.iload_n 2, 1) := dk_28 (dk_at dksX0_isBetween_0 6 rfl rfl)
theorem dX0_isBetween_7 : decode cX0_isBetween 7 = .ok (.if_icmp .gt 7, 3) := dk_163 0 7 (dk_at dksX0_isBetween_0 7 rfl rfl)
theorem dX0_isBetween_10 : decode cX0_isBetween 10 = .ok (.iconst 1, 1) := dk_4 (dk_at dksX0_isBetween_0 10 rfl rfl)
theorem dX0_isBetween_11 : decode cX0_isBetween 11 = .ok (.goto 4, 3) := dk_167 0 4 (dk_at dksX0_isBetween_0 11 rfl rfl)
theorem dX0_isBetween_14 : decode cX0_isBetween 14 = .ok (.iconst 0, 1) := dk_3 (dk_at dksX0_isBetween_0 14 rfl rfl)
theorem dX0_isBetween_15 : decode cX0_isBetween 15 = .ok (.ireturn, 1) := dk_172 (dk_at dksX0_isBetween_0 15 rfl rfl)
abbrev cX0_keysWithout : ByteArray := prog_1_method_12_code
def yX0_keysWithout : MethodName := ⟨RX0, "keysWithout", "(I)Ljava/util/HashSet;"⟩
def dkwX0_keysWithout_2 : List UInt8 := [180, 0, 127, 25, 4, 180, 0, 130, 183, 0, 133, 182, 0, 136, 87, 132, 3, 1, 167, 255, 200, 44, 176]
abbrev dktX0_keysWithout_2 : List UInt8 := dkwX0_keysWithout_2 ++ []
def dkwX0_keysWithout_1 : List UInt8 := [42, 29, 182, 0, 118, 58, 4, 29, 27, 159, 0, 30, 44, 187, 0, 122, 89, 25, 4, 180, 0, 124, 25, 4]
abbrev dktX0_keysWithout_1 : List UInt8 := dkwX0_keysWithout_1 ++ dktX0_keysWithout_2
def dkwX0_keysWithout_0 : List UInt8 := [187, 0, 115, 89, 183, 0, 117, 77, 3, 62, 29, 42, 180, 0, 10, 180, 0, 62, 182, 0, 66, 162, 0, 48]
abbrev dktX0_keysWithout_0 : List UInt8 := dkwX0_keysWithout_0 ++ dktX0_keysWithout_1
theorem dksX0_keysWithout_0 : cX0_keysWithout.data.toList.drop 0 = dktX0_keysWithout_0 := by decide +kernel
theorem dksX0_keysWithout_1 : cX0_keysWithout.data.toList.drop 24 = dktX0_keysWithout_1 := dk_seg dksX0_keysWithout_0 24 rfl rfl
theorem dksX0_keysWithout_2 : cX0_keysWithout.data.toList.drop 48 = dktX0_keysWithout_2 := dk_seg dksX0_keysWithout_1 24 rfl rfl
theorem dX0_keysWithout_0 : decode cX0_keysWithout 0 = .ok (.new 115, 3) := dk_187 0 115 (dk_at dksX0_keysWithout_0 0 rfl rfl)
theorem dX0_keysWithout_3 : decode cX0_keysWithout 3 = .ok (.dup, 1) := dk_89 (dk_at dksX0_keysWithout_0 3 rfl rfl)
theorem dX0_keysWithout_4 : decode cX0_keysWithout 4 = .ok (.invokespecial 117, 3) := dk_183 0 117 (dk_at dksX0_keysWithout_0 4 rfl rfl)
theorem dX0_keysWithout_7 : decode cX0_keysWithout 7 = .ok (.astore_n 2, 1) := dk_77 (dk_at dksX0_keysWithout_0 7 rfl rfl)
theorem dX0_keysWithout_8 : decode cX0_keysWithout 8 = .ok (.iconst 0, 1) := dk_3 (dk_at dksX0_keysWithout_0 8 rfl rfl)
theorem dX0_keysWithout_9 : decode cX0_keysWithout 9 = .ok (.istore_n 3, 1) := dk_62 (dk_at dksX0_keysWithout_0 9 rfl rfl)
theorem dX0_keysWithout_10 : decode cX0_keysWithout 10 = .ok (.iload_n 3, 1) := dk_29 (dk_at dksX0_keysWithout_0 10 rfl rfl)
theorem dX0_keysWithout_11 : decode cX0_keysWithout 11 = .ok (.aload_n 0, 1) := dk_42 (dk_at dksX0_keysWithout_0 11 rfl rfl)
theorem dX0_keysWithout_12 : decode cX0_keysWithout 12 = .ok (.getfield 10, 3) := dk_180 0 10 (dk_at dksX0_keysWithout_0 12 rfl rfl)
theorem dX0_keysWithout_15 : decode cX0_keysWithout 15 = .ok (.getfield 62, 3) := dk_180 0 62 (dk_at dksX0_keysWithout_0 15 rfl rfl)
theorem dX0_keysWithout_18 : decode cX0_keysWithout 18 = .ok (.invokevirtual 66, 3) := dk_182 0 66 (dk_at dksX0_keysWithout_0 18 rfl rfl)
theorem dX0_keysWithout_21 : decode cX0_keysWithout 21 = .ok (.if_icmp .ge 48, 3) := dk_162 0 48 (dk_at dksX0_keysWithout_0 21 rfl rfl)
theorem dX0_keysWithout_24 : decode cX0_keysWithout 24 = .ok (.aload_n 0, 1) := dk_42 (dk_at dksX0_keysWithout_1 0 rfl rfl)
theorem dX0_keysWithout_25 : decode cX0_keysWithout 25 = .ok (.iload_n 3, 1) := dk_29 (dk_at dksX0_keysWithout_1 1 rfl rfl)
theorem dX0_keysWithout_26 : decode cX0_keysWithout 26 = .ok (.invokevirtual 118, 3) := dk_182 0 118 (dk_at dksX0_keysWithout_1 2 rfl rfl)
theorem dX0_keysWithout_29 : decode cX0_keysWithout 29 = .ok (.astore 4, 2) := dk_58 4 (dk_at dksX0_keysWithout_1 5 rfl rfl)
theorem dX0_keysWithout_31 : decode cX0_keysWithout 31 = .ok (.iload_n 3, 1) := dk_29 (dk_at dksX0_keysWithout_1 7 rfl rfl)
theorem dX0_keysWithout_32 : decode cX0_keysWithout 32 = .ok (.iload_n 1, 1) := dk_27 (dk_at dksX0_keysWithout_1 8 rfl rfl)
theorem dX0_keysWithout_33 : decode cX0_keysWithout 33 = .ok (.if_icmp .eq 30, 3) := dk_159 0 30 (dk_at dksX0_keysWithout_1 9 rfl rfl)
theorem dX0_keysWithout_36 : decode cX0_keysWithout 36 = .ok (.aload_n 2, 1) := dk_44 (dk_at dksX0_keysWithout_1 12 rfl rfl)
theorem dX0_keysWithout_37 : decode cX0_keysWithout 37 = .ok (.new 122, 3) := dk_187 0 122 (dk_at dksX0_keysWithout_1 13 rfl rfl)
theorem dX0_keysWithout_40 : decode cX0_keysWithout 40 = .ok (.dup, 1) := dk_89 (dk_at dksX0_keysWithout_1 16 rfl rfl)
theorem dX0_keysWithout_41 : decode cX0_keysWithout 41 = .ok (.aload 4, 2) := dk_25 4 (dk_at dksX0_keysWithout_1 17 rfl rfl)
theorem dX0_keysWithout_43 : decode cX0_keysWithout 43 = .ok (.getfield 124, 3) := dk_180 0 124 (dk_at dksX0_keysWithout_1 19 rfl rfl)
theorem dX0_keysWithout_46 : decode cX0_keysWithout 46 = .ok (.aload 4, 2) := dk_25 4 (dk_at dksX0_keysWithout_1 22 rfl rfl)
theorem dX0_keysWithout_48 : decode cX0_keysWithout 48 = .ok (.getfield 127, 3) := dk_180 0 127 (dk_at dksX0_keysWithout_2 0 rfl rfl)
theorem dX0_keysWithout_51 : decode cX0_keysWithout 51 = .ok (.aload 4, 2) := dk_25 4 (dk_at dksX0_keysWithout_2 3 rfl rfl)
theorem dX0_keysWithout_53 : decode cX0_keysWithout 53 = .ok (.getfield 130, 3) := dk_180 0 130 (dk_at dksX0_keysWithout_2 5 rfl rfl)
theorem dX0_keysWithout_56 : decode cX0_keysWithout 56 = .ok (.invokespecial 133, 3) := dk_183 0 133 (dk_at dksX0_keysWithout_2 8 rfl rfl)
theorem dX0_keysWithout_59 : decode cX0_keysWithout 59 = .ok (.invokevirtual 136, 3) := dk_182 0 136 (dk_at dksX0_keysWithout_2 11 rfl rfl)
theorem dX0_keysWithout_62 : decode cX0_keysWithout 62 = .ok (.pop, 1) := dk_87 (dk_at dksX0_keysWithout_2 14 rfl rfl)
theorem dX0_keysWithout_63 : decode cX0_keysWithout 63 = .ok (.iinc 3 1, 3) := dk_132 3 1 (dk_at dksX0_keysWithout_2 15 rfl rfl)
theorem dX0_keysWithout_66 : decode cX0_keysWithout 66 = .ok (.goto (-56), 3) := dk_167 255 200 (dk_at dksX0_keysWithout_2 18 rfl rfl)
theorem dX0_keysWithout_69 : decode cX0_keysWithout 69 = .ok (.aload_n 2, 1) := dk_44 (dk_at dksX0_keysWithout_2 21 rfl rfl)
theorem dX0_keysWithout_70 : decode cX0_keysWithout 70 = .ok (.areturn, 1) := dk_176 (dk_at dksX0_keysWithout_2 22 rfl rfl)
abbrev cX0_legOf : ByteArray := prog_1_method_5_code
def yX0_legOf : MethodName := ⟨RX0, "legOf", "(I)LCrewPairer$Leg;"⟩
def dkwX0_legOf_0 : List UInt8 := [42, 180, 0, 10, 180, 0, 62, 27, 182, 0, 79, 192, 0, 83, 176]
abbrev dktX0_legOf_0 : List UInt8 := dkwX0_legOf_0 ++ []
theorem dksX0_legOf_0 : cX0_legOf.data.toList.drop 0 = dktX0_legOf_0 := by decide +kernel
theorem dX0_legOf_0 : decode cX0_legOf 0 = .ok (.aload_n 0, 1) := dk_42 (dk_at dksX0_legOf_0 0 rfl rfl)
theorem dX0_legOf_1 : decode cX0_legOf 1 = .ok (.getfield 10, 3) := dk_180 0 10 (dk_at dksX0_legOf_0 1 rfl rfl)
theorem dX0_legOf_4 : decode cX0_legOf 4 = .ok (.getfield 62, 3) := dk_180 0 62 (dk_at dksX0_legOf_0 4 rfl rfl)
theorem dX0_legOf_7 : decode cX0_legOf 7 = .ok (.iload_n 1, 1) := dk_27 (dk_at dksX0_legOf_0 7 rfl rfl)
theorem dX0_legOf_8 : decode cX0_legOf 8 = .ok (.invokevirtual 79, 3) := dk_182 0 79 (dk_at dksX0_legOf_0 8 rfl rfl)
theorem dX0_legOf_11 : decode cX0_legOf 11 = .ok (.checkcast 83, 3) := dk_192 0 83 (dk_at dksX0_legOf_0 11 rfl rfl)
theorem dX0_legOf_14 : decode cX0_legOf 14 = .ok (.areturn, 1) := dk_176 (dk_at dksX0_legOf_0 14 rfl rfl)
abbrev cX0_addCrew : ByteArray := prog_1_method_14_code
def yX0_addCrew : MethodName := ⟨RX0, "addCrew", "(I)I"⟩
def dkwX0_addCrew_2 : List UInt8 := [183, 0, 157, 182, 0, 156, 87, 42, 180, 0, 10, 180, 0, 76, 182, 0, 66, 4, 100, 172]
abbrev dktX0_addCrew_2 : List UInt8 := dkwX0_addCrew_2 ++ []
def dkwX0_addCrew_1 : List UInt8 := [160, 0, 6, 16, 253, 172, 42, 182, 0, 112, 42, 180, 0, 10, 180, 0, 76, 187, 0, 85, 89, 27]
abbrev dktX0_addCrew_1 : List UInt8 := dkwX0_addCrew_1 ++ dktX0_addCrew_2
def dkwX0_addCrew_0 : List UInt8 := [27, 3, 8, 184, 0, 72, 154, 0, 5, 2, 172, 42, 180, 0, 10, 180, 0, 76, 182, 0, 66, 16, 6]
abbrev dktX0_addCrew_0 : List UInt8 := dkwX0_addCrew_0 ++ dktX0_addCrew_1
theorem dksX0_addCrew_0 : cX0_addCrew.data.toList.drop 0 = dktX0_addCrew_0 := by decide +kernel
theorem dksX0_addCrew_1 : cX0_addCrew.data.toList.drop 23 = dktX0_addCrew_1 := dk_seg dksX0_addCrew_0 23 rfl rfl
theorem dksX0_addCrew_2 : cX0_addCrew.data.toList.drop 45 = dktX0_addCrew_2 := dk_seg dksX0_addCrew_1 22 rfl rfl
theorem dX0_addCrew_0 : decode cX0_addCrew 0 = .ok (.iload_n 1, 1) := dk_27 (dk_at dksX0_addCrew_0 0 rfl rfl)
theorem dX0_addCrew_1 : decode cX0_addCrew 1 = .ok (.iconst 0, 1) := dk_3 (dk_at dksX0_addCrew_0 1 rfl rfl)
theorem dX0_addCrew_2 : decode cX0_addCrew 2 = .ok (.iconst 5, 1) := dk_8 (dk_at dksX0_addCrew_0 2 rfl rfl)
theorem dX0_addCrew_3 : decode cX0_addCrew 3 = .ok (.invokestatic 72, 3) := dk_184 0 72 (dk_at dksX0_addCrew_0 3 rfl rfl)
theorem dX0_addCrew_6 : decode cX0_addCrew 6 = .ok (.ifCond .ne 5, 3) := dk_154 0 5 (dk_at dksX0_addCrew_0 6 rfl rfl)
theorem dX0_addCrew_9 : decode cX0_addCrew 9 = .ok (.iconst (-1), 1) := dk_2 (dk_at dksX0_addCrew_0 9 rfl rfl)
theorem dX0_addCrew_10 : decode cX0_addCrew 10 = .ok (.ireturn, 1) := dk_172 (dk_at dksX0_addCrew_0 10 rfl rfl)
theorem dX0_addCrew_11 : decode cX0_addCrew 11 = .ok (.aload_n 0, 1) := dk_42 (dk_at dksX0_addCrew_0 11 rfl rfl)
theorem dX0_addCrew_12 : decode cX0_addCrew 12 = .ok (.getfield 10, 3) := dk_180 0 10 (dk_at dksX0_addCrew_0 12 rfl rfl)
theorem dX0_addCrew_15 : decode cX0_addCrew 15 = .ok (.getfield 76, 3) := dk_180 0 76 (dk_at dksX0_addCrew_0 15 rfl rfl)
theorem dX0_addCrew_18 : decode cX0_addCrew 18 = .ok (.invokevirtual 66, 3) := dk_182 0 66 (dk_at dksX0_addCrew_0 18 rfl rfl)
theorem dX0_addCrew_21 : decode cX0_addCrew 21 = .ok (.bipush 6, 2) := dk_16 6 (dk_at dksX0_addCrew_0 21 rfl rfl)
theorem dX0_addCrew_23 : decode cX0_addCrew 23 = .ok (.if_icmp .ne 6, 3) := dk_160 0 6 (dk_at dksX0_addCrew_1 0 rfl rfl)
theorem dX0_addCrew_26 : decode cX0_addCrew 26 = .ok (.bipush (-3), 2) := dk_16 253 (dk_at dksX0_addCrew_1 3 rfl rfl)
theorem dX0_addCrew_28 : decode cX0_addCrew 28 = .ok (.ireturn, 1) := dk_172 (dk_at dksX0_addCrew_1 5 rfl rfl)
theorem dX0_addCrew_29 : decode cX0_addCrew 29 = .ok (.aload_n 0, 1) := dk_42 (dk_at dksX0_addCrew_1 6 rfl rfl)
theorem dX0_addCrew_30 : decode cX0_addCrew 30 = .ok (.invokevirtual 112, 3) := dk_182 0 112 (dk_at dksX0_addCrew_1 7 rfl rfl)
theorem dX0_addCrew_33 : decode cX0_addCrew 33 = .ok (.aload_n 0, 1) := dk_42 (dk_at dksX0_addCrew_1 10 rfl rfl)
theorem dX0_addCrew_34 : decode cX0_addCrew 34 = .ok (.getfield 10, 3) := dk_180 0 10 (dk_at dksX0_addCrew_1 11 rfl rfl)
theorem dX0_addCrew_37 : decode cX0_addCrew 37 = .ok (.getfield 76, 3) := dk_180 0 76 (dk_at dksX0_addCrew_1 14 rfl rfl)
theorem dX0_addCrew_40 : decode cX0_addCrew 40 = .ok (.new 85, 3) := dk_187 0 85 (dk_at dksX0_addCrew_1 17 rfl rfl)
theorem dX0_addCrew_43 : decode cX0_addCrew 43 = .ok (.dup, 1) := dk_89 (dk_at dksX0_addCrew_1 20 rfl rfl)
theorem dX0_addCrew_44 : decode cX0_addCrew 44 = .ok (.iload_n 1, 1) := dk_27 (dk_at dksX0_addCrew_1 21 rfl rfl)
theorem dX0_addCrew_45 : decode cX0_addCrew 45 = .ok (.invokespecial 157, 3) := dk_183 0 157 (dk_at dksX0_addCrew_2 0 rfl rfl)
theorem dX0_addCrew_48 : decode cX0_addCrew 48 = .ok (.invokevirtual 156, 3) := dk_182 0 156 (dk_at dksX0_addCrew_2 3 rfl rfl)
theorem dX0_addCrew_51 : decode cX0_addCrew 51 = .ok (.pop, 1) := dk_87 (dk_at dksX0_addCrew_2 6 rfl rfl)
theorem dX0_addCrew_52 : decode cX0_addCrew 52 = .ok (.aload_n 0, 1) := dk_42 (dk_at dksX0_addCrew_2 7 rfl rfl)
theorem dX0_addCrew_53 : decode cX0_addCrew 53 = .ok (.getfield 10, 3) := dk_180 0 10 (dk_at dksX0_addCrew_2 8 rfl rfl)
theorem dX0_addCrew_56 : decode cX0_addCrew 56 = .ok (.getfield 76, 3) := dk_180 0 76 (dk_at dksX0_addCrew_2 11 rfl rfl)
theorem dX0_addCrew_59 : decode cX0_addCrew 59 = .ok (.invokevirtual 66, 3) := dk_182 0 66 (dk_at dksX0_addCrew_2 14 rfl rfl)
theorem dX0_addCrew_62 : decode cX0_addCrew 62 = .ok (.iconst 1, 1) := dk_4 (dk_at dksX0_addCrew_2 17 rfl rfl)
theorem dX0_addCrew_63 : decode cX0_addCrew 63 = .ok (.isub, 1) := dk_100 (dk_at dksX0_addCrew_2 18 rfl rfl)
theorem dX0_addCrew_64 : decode cX0_addCrew 64 = .ok (.ireturn, 1) := dk_172 (dk_at dksX0_addCrew_2 19 rfl rfl)
abbrev cX0_legCount : ByteArray := prog_1_method_15_code
def yX0_legCount : MethodName := ⟨RX0, "legCount", "()I"⟩
def dkwX0_legCount_0 : List UInt8 := [42, 180, 0, 10, 180, 0, 62, 182, 0, 66, 172]
abbrev dktX0_legCount_0 : List UInt8 := dkwX0_legCount_0 ++ []
theorem dksX0_legCount_0 : cX0_legCount.data.toList.drop 0 = dktX0_legCount_0 := by decide +kernel
theorem dX0_legCount_0 : decode cX0_legCount 0 = .ok (.aload_n 0, 1) := dk_42 (dk_at dksX0_legCount_0 0 rfl rfl)
theorem dX0_legCount_1 : decode cX0_legCount 1 = .ok (.getfield 10, 3) := dk_180 0 10 (dk_at dksX0_legCount_0 1 rfl rfl)
theorem dX0_legCount_4 : decode cX0_legCount 4 = .ok (.getfield 62, 3) := dk_180 0 62 (dk_at dksX0_legCount_0 4 rfl rfl)
theorem dX0_legCount_7 : decode cX0_legCount 7 = .ok (.invokevirtual 66, 3) := dk_182 0 66 (dk_at dksX0_legCount_0 7 rfl rfl)
theorem dX0_legCount_10 : decode cX0_legCount 10 = .ok (.ireturn, 1) := dk_172 (dk_at dksX0_legCount_0 10 rfl rfl)
abbrev cX0_crewCount : ByteArray := prog_1_method_16_code
def yX0_crewCount : MethodName := ⟨RX0, "crewCount", "()I"⟩
def dkwX0_crewCount_0 : List UInt8 := [42, 180, 0, 10, 180, 0, 76, 182, 0, 66, 172]
abbrev dktX0_crewCount_0 : List UInt8 := dkwX0_crewCount_0 ++ []
theorem dksX0_crewCount_0 : cX0_crewCount.data.toList.drop 0 = dktX0_crewCount_0 := by decide +kernel
theorem dX0_crewCount_0 : decode cX0_crewCount 0 = .ok (.aload_n 0, 1) := dk_42 (dk_at dksX0_crewCount_0 0 rfl rfl)
theorem dX0_crewCount_1 : decode cX0_crewCount 1 = .ok (.getfield 10, 3) := dk_180 0 10 (dk_at dksX0_crewCount_0 1 rfl rfl)
theorem dX0_crewCount_4 : decode cX0_crewCount 4 = .ok (.getfield 76, 3) := dk_180 0 76 (dk_at dksX0_crewCount_0 4 rfl rfl)
theorem dX0_crewCount_7 : decode cX0_crewCount 7 = .ok (.invokevirtual 66, 3) := dk_182 0 66 (dk_at dksX0_crewCount_0 7 rfl rfl)
theorem dX0_crewCount_10 : decode cX0_crewCount 10 = .ok (.ireturn, 1) := dk_172 (dk_at dksX0_crewCount_0 10 rfl rfl)
abbrev cX0_leg : ByteArray := prog_1_method_19_code
def yX0_leg : MethodName := ⟨RX0, "leg", "(II)I"⟩
def dkwX0_leg_3 : List UInt8 := [153, 0, 7, 4, 167, 0, 4, 3, 172, 42, 27, 182, 0, 174, 172, 2, 172]
abbrev dktX0_leg_3 : List UInt8 := dkwX0_leg_3 ++ []
def dkwX0_leg_2 : List UInt8 := [45, 180, 0, 124, 172, 45, 180, 0, 127, 172, 45, 180, 0, 130, 172, 45, 180, 0, 181, 172, 45, 180, 0, 171]
abbrev dktX0_leg_2 : List UInt8 := dkwX0_leg_2 ++ dktX0_leg_3
def dkwX0_leg_1 : List UInt8 := [170, 0, 0, 0, 0, 0, 78, 0, 0, 0, 0, 0, 0, 0, 5, 0, 0, 0, 39, 0, 0, 0, 44, 0, 0, 0, 49, 0, 0, 0, 54, 0, 0, 0, 59, 0, 0, 0, 72]
abbrev dktX0_leg_1 : List UInt8 := dkwX0_leg_1 ++ dktX0_leg_2
def dkwX0_leg_0 : List UInt8 := [42, 27, 182, 0, 177, 154, 0, 5, 2, 172, 42, 27, 182, 0, 118, 78, 28]
abbrev dktX0_leg_0 : List UInt8 := dkwX0_leg_0 ++ dktX0_leg_1
theorem dksX0_leg_0 : cX0_leg.data.toList.drop 0 = dktX0_leg_0 := by decide +kernel
theorem dksX0_leg_1 : cX0_leg.data.toList.drop 17 = dktX0_leg_1 := dk_seg dksX0_leg_0 17 rfl rfl
theorem dksX0_leg_2 : cX0_leg.data.toList.drop 56 = dktX0_leg_2 := dk_seg dksX0_leg_1 39 rfl rfl
theorem dksX0_leg_3 : cX0_leg.data.toList.drop 80 = dktX0_leg_3 := dk_seg dksX0_leg_2 24 rfl rfl
theorem dX0_leg_0 : decode cX0_leg 0 = .ok (.aload_n 0, 1) := dk_42 (dk_at dksX0_leg_0 0 rfl rfl)
theorem dX0_leg_1 : decode cX0_leg 1 = .ok (.iload_n 1, 1) := dk_27 (dk_at dksX0_leg_0 1 rfl rfl)
theorem dX0_leg_2 : decode cX0_leg 2 = .ok (.invokevirtual 177, 3) := dk_182 0 177 (dk_at dksX0_leg_0 2 rfl rfl)
theorem dX0_leg_5 : decode cX0_leg 5 = .ok (.ifCond .ne 5, 3) := dk_154 0 5 (dk_at dksX0_leg_0 5 rfl rfl)
theorem dX0_leg_8 : decode cX0_leg 8 = .ok (.iconst (-1), 1) := dk_2 (dk_at dksX0_leg_0 8 rfl rfl)
theorem dX0_leg_9 : decode cX0_leg 9 = .ok (.ireturn, 1) := dk_172 (dk_at dksX0_leg_0 9 rfl rfl)
theorem dX0_leg_10 : decode cX0_leg 10 = .ok (.aload_n 0, 1) := dk_42 (dk_at dksX0_leg_0 10 rfl rfl)
theorem dX0_leg_11 : decode cX0_leg 11 = .ok (.iload_n 1, 1) := dk_27 (dk_at dksX0_leg_0 11 rfl rfl)
theorem dX0_leg_12 : decode cX0_leg 12 = .ok (.invokevirtual 118, 3) := dk_182 0 118 (dk_at dksX0_leg_0 12 rfl rfl)
theorem dX0_leg_15 : decode cX0_leg 15 = .ok (.astore_n 3, 1) := dk_78 (dk_at dksX0_leg_0 15 rfl rfl)
theorem dX0_leg_16 : decode cX0_leg 16 = .ok (.iload_n 2, 1) := dk_28 (dk_at dksX0_leg_0 16 rfl rfl)
theorem dX0_leg_17 : decode cX0_leg 17 = .ok (.tableswitch 78 0 5 #[39, 44, 49, 54, 59, 72], 39) := by decide +kernel
theorem dX0_leg_56 : decode cX0_leg 56 = .ok (.aload_n 3, 1) := dk_45 (dk_at dksX0_leg_2 0 rfl rfl)
theorem dX0_leg_57 : decode cX0_leg 57 = .ok (.getfield 124, 3) := dk_180 0 124 (dk_at dksX0_leg_2 1 rfl rfl)
theorem dX0_leg_60 : decode cX0_leg 60 = .ok (.ireturn, 1) := dk_172 (dk_at dksX0_leg_2 4 rfl rfl)
theorem dX0_leg_61 : decode cX0_leg 61 = .ok (.aload_n 3, 1) := dk_45 (dk_at dksX0_leg_2 5 rfl rfl)
theorem dX0_leg_62 : decode cX0_leg 62 = .ok (.getfield 127, 3) := dk_180 0 127 (dk_at dksX0_leg_2 6 rfl rfl)
theorem dX0_leg_65 : decode cX0_leg 65 = .ok (.ireturn, 1) := dk_172 (dk_at dksX0_leg_2 9 rfl rfl)
theorem dX0_leg_66 : decode cX0_leg 66 = .ok (.aload_n 3, 1) := dk_45 (dk_at dksX0_leg_2 10 rfl rfl)
theorem dX0_leg_67 : decode cX0_leg 67 = .ok (.getfield 130, 3) := dk_180 0 130 (dk_at dksX0_leg_2 11 rfl rfl)
theorem dX0_leg_70 : decode cX0_leg 70 = .ok (.ireturn, 1) := dk_172 (dk_at dksX0_leg_2 14 rfl rfl)
theorem dX0_leg_71 : decode cX0_leg 71 = .ok (.aload_n 3, 1) := dk_45 (dk_at dksX0_leg_2 15 rfl rfl)
theorem dX0_leg_72 : decode cX0_leg 72 = .ok (.getfield 181, 3) := dk_180 0 181 (dk_at dksX0_leg_2 16 rfl rfl)
theorem dX0_leg_75 : decode cX0_leg 75 = .ok (.ireturn, 1) := dk_172 (dk_at dksX0_leg_2 19 rfl rfl)
theorem dX0_leg_76 : decode cX0_leg 76 = .ok (.aload_n 3, 1) := dk_45 (dk_at dksX0_leg_2 20 rfl rfl)
theorem dX0_leg_77 : decode cX0_leg 77 = .ok (.getfield 171, 3) := dk_180 0 171 (dk_at dksX0_leg_2 21 rfl rfl)
theorem dX0_leg_80 : decode cX0_leg 80 = .ok (.ifCond .eq 7, 3) := dk_153 0 7 (dk_at dksX0_leg_3 0 rfl rfl)
theorem dX0_leg_83 : decode cX0_leg 83 = .ok (.iconst 1, 1) := dk_4 (dk_at dksX0_leg_3 3 rfl rfl)
theorem dX0_leg_84 : decode cX0_leg 84 = .ok (.goto 4, 3) := dk_167 0 4 (dk_at dksX0_leg_3 4 rfl rfl)
theorem dX0_leg_87 : decode cX0_leg 87 = .ok (.iconst 0, 1) := dk_3 (dk_at dksX0_leg_3 7 rfl rfl)
theorem dX0_leg_88 : decode cX0_leg 88 = .ok (.ireturn, 1) := dk_172 (dk_at dksX0_leg_3 8 rfl rfl)
theorem dX0_leg_89 : decode cX0_leg 89 = .ok (.aload_n 0, 1) := dk_42 (dk_at dksX0_leg_3 9 rfl rfl)
theorem dX0_leg_90 : decode cX0_leg 90 = .ok (.iload_n 1, 1) := dk_27 (dk_at dksX0_leg_3 10 rfl rfl)
theorem dX0_leg_91 : decode cX0_leg 91 = .ok (.invokevirtual 174, 3) := dk_182 0 174 (dk_at dksX0_leg_3 11 rfl rfl)
theorem dX0_leg_94 : decode cX0_leg 94 = .ok (.ireturn, 1) := dk_172 (dk_at dksX0_leg_3 14 rfl rfl)
theorem dX0_leg_95 : decode cX0_leg 95 = .ok (.iconst (-1), 1) := dk_2 (dk_at dksX0_leg_3 15 rfl rfl)
theorem dX0_leg_96 : decode cX0_leg 96 = .ok (.ireturn, 1) := dk_172 (dk_at dksX0_leg_3 16 rfl rfl)
abbrev cX0_isLeg : ByteArray := prog_1_method_3_code
def yX0_isLeg : MethodName := ⟨RX0, "isLeg", "(I)Z"⟩
def dkwX0_isLeg_0 : List UInt8 := [27, 3, 42, 180, 0, 10, 180, 0, 62, 182, 0, 66, 4, 100, 184, 0, 72, 172]
abbrev dktX0_isLeg_0 : List UInt8 := dkwX0_isLeg_0 ++ []
theorem dksX0_isLeg_0 : cX0_isLeg.data.toList.drop 0 = dktX0_isLeg_0 := by decide +kernel
theorem dX0_isLeg_0 : decode cX0_isLeg 0 = .ok (.iload_n 1, 1) := dk_27 (dk_at dksX0_isLeg_0 0 rfl rfl)
theorem dX0_isLeg_1 : decode cX0_isLeg 1 = .ok (.iconst 0, 1) := dk_3 (dk_at dksX0_isLeg_0 1 rfl rfl)
theorem dX0_isLeg_2 : decode cX0_isLeg 2 = .ok (.aload_n 0, 1) := dk_42 (dk_at dksX0_isLeg_0 2 rfl rfl)
theorem dX0_isLeg_3 : decode cX0_isLeg 3 = .ok (.getfield 10, 3) := dk_180 0 10 (dk_at dksX0_isLeg_0 3 rfl rfl)
theorem dX0_isLeg_6 : decode cX0_isLeg 6 = .ok (.getfield 62, 3) := dk_180 0 62 (dk_at dksX0_isLeg_0 6 rfl rfl)
theorem dX0_isLeg_9 : decode cX0_isLeg 9 = .ok (.invokevirtual 66, 3) := dk_182 0 66 (dk_at dksX0_isLeg_0 9 rfl rfl)
theorem dX0_isLeg_12 : decode cX0_isLeg 12 = .ok (.iconst 1, 1) := dk_4 (dk_at dksX0_isLeg_0 12 rfl rfl)
theorem dX0_isLeg_13 : decode cX0_isLeg 13 = .ok (.isub, 1) := dk_100 (dk_at dksX0_isLeg_0 13 rfl rfl)
theorem dX0_isLeg_14 : decode cX0_isLeg 14 = .ok (.invokestatic 72, 3) := dk_184 0 72 (dk_at dksX0_isLeg_0 14 rfl rfl)
theorem dX0_isLeg_17 : decode cX0_isLeg 17 = .ok (.ireturn, 1) := dk_172 (dk_at dksX0_isLeg_0 17 rfl rfl)
abbrev cX0_flownBy : ByteArray := prog_1_method_17_code
def yX0_flownBy : MethodName := ⟨RX0, "flownBy", "(I)I"⟩
def dkwX0_flownBy_2 : List UInt8 := [132, 2, 1, 167, 255, 210, 16, 254, 172]
abbrev dktX0_flownBy_2 : List UInt8 := dkwX0_flownBy_2 ++ []
def dkwX0_flownBy_1 : List UInt8 := [182, 0, 164, 62, 29, 155, 0, 18, 42, 28, 182, 0, 160, 180, 0, 168, 29, 51, 153, 0, 5, 28, 172]
abbrev dktX0_flownBy_1 : List UInt8 := dkwX0_flownBy_1 ++ dktX0_flownBy_2
def dkwX0_flownBy_0 : List UInt8 := [3, 61, 28, 42, 180, 0, 10, 180, 0, 76, 182, 0, 66, 162, 0, 38, 42, 28, 182, 0, 160, 27]
abbrev dktX0_flownBy_0 : List UInt8 := dkwX0_flownBy_0 ++ dktX0_flownBy_1
theorem dksX0_flownBy_0 : cX0_flownBy.data.toList.drop 0 = dktX0_flownBy_0 := by decide +kernel
theorem dksX0_flownBy_1 : cX0_flownBy.data.toList.drop 22 = dktX0_flownBy_1 := dk_seg dksX0_flownBy_0 22 rfl rfl
theorem dksX0_flownBy_2 : cX0_flownBy.data.toList.drop 45 = dktX0_flownBy_2 := dk_seg dksX0_flownBy_1 23 rfl rfl
theorem dX0_flownBy_0 : decode cX0_flownBy 0 = .ok (.iconst 0, 1) := dk_3 (dk_at dksX0_flownBy_0 0 rfl rfl)
theorem dX0_flownBy_1 : decode cX0_flownBy 1 = .ok (.istore_n 2, 1) := dk_61 (dk_at dksX0_flownBy_0 1 rfl rfl)
theorem dX0_flownBy_2 : decode cX0_flownBy 2 = .ok (.iload_n 2, 1) := dk_28 (dk_at dksX0_flownBy_0 2 rfl rfl)
theorem dX0_flownBy_3 : decode cX0_flownBy 3 = .ok (.aload_n 0, 1) := dk_42 (dk_at dksX0_flownBy_0 3 rfl rfl)
theorem dX0_flownBy_4 : decode cX0_flownBy 4 = .ok (.getfield 10, 3) := dk_180 0 10 (dk_at dksX0_flownBy_0 4 rfl rfl)
theorem dX0_flownBy_7 : decode cX0_flownBy 7 = .ok (.getfield 76, 3) := dk_180 0 76 (dk_at dksX0_flownBy_0 7 rfl rfl)
theorem dX0_flownBy_10 : decode cX0_flownBy 10 = .ok (.invokevirtual 66, 3) := dk_182 0 66 (dk_at dksX0_flownBy_0 10 rfl rfl)
theorem dX0_flownBy_13 : decode cX0_flownBy 13 = .ok (.if_icmp .ge 38, 3) := dk_162 0 38 (dk_at dksX0_flownBy_0 13 rfl rfl)
theorem dX0_flownBy_16 : decode cX0_flownBy 16 = .ok (.aload_n 0, 1) := dk_42 (dk_at dksX0_flownBy_0 16 rfl rfl)
theorem dX0_flownBy_17 : decode cX0_flownBy 17 = .ok (.iload_n 2, 1) := dk_28 (dk_at dksX0_flownBy_0 17 rfl rfl)
theorem dX0_flownBy_18 : decode cX0_flownBy 18 = .ok (.invokevirtual 160, 3) := dk_182 0 160 (dk_at dksX0_flownBy_0 18 rfl rfl)
theorem dX0_flownBy_21 : decode cX0_flownBy 21 = .ok (.iload_n 1, 1) := dk_27 (dk_at dksX0_flownBy_0 21 rfl rfl)
theorem dX0_flownBy_22 : decode cX0_flownBy 22 = .ok (.invokevirtual 164, 3) := dk_182 0 164 (dk_at dksX0_flownBy_1 0 rfl rfl)
theorem dX0_flownBy_25 : decode cX0_flownBy 25 = .ok (.istore_n 3, 1) := dk_62 (dk_at dksX0_flownBy_1 3 rfl rfl)
theorem dX0_flownBy_26 : decode cX0_flownBy 26 = .ok (.iload_n 3, 1) := dk_29 (dk_at dksX0_flownBy_1 4 rfl rfl)
theorem dX0_flownBy_27 : decode cX0_flownBy 27 = .ok (.ifCond .lt 18, 3) := dk_155 0 18 (dk_at dksX0_flownBy_1 5 rfl rfl)
theorem dX0_flownBy_30 : decode cX0_flownBy 30 = .ok (.aload_n 0, 1) := dk_42 (dk_at dksX0_flownBy_1 8 rfl rfl)
theorem dX0_flownBy_31 : decode cX0_flownBy 31 = .ok (.iload_n 2, 1) := dk_28 (dk_at dksX0_flownBy_1 9 rfl rfl)
theorem dX0_flownBy_32 : decode cX0_flownBy 32 = .ok (.invokevirtual 160, 3) := dk_182 0 160 (dk_at dksX0_flownBy_1 10 rfl rfl)
theorem dX0_flownBy_35 : decode cX0_flownBy 35 = .ok (.getfield 168, 3) := dk_180 0 168 (dk_at dksX0_flownBy_1 13 rfl rfl)
theorem dX0_flownBy_38 : decode cX0_flownBy 38 = .ok (.iload_n 3, 1) := dk_29 (dk_at dksX0_flownBy_1 16 rfl rfl)
theorem dX0_flownBy_39 : decode cX0_flownBy 39 = .ok (.baload, 1) := dk_51 (dk_at dksX0_flownBy_1 17 rfl rfl)
theorem dX0_flownBy_40 : decode cX0_flownBy 40 = .ok (.ifCond .eq 5, 3) := dk_153 0 5 (dk_at dksX0_flownBy_1 18 rfl rfl)
theorem dX0_flownBy_43 : decode cX0_flownBy 43 = .ok (.iload_n 2, 1) := dk_28 (dk_at dksX0_flownBy_1 21 rfl rfl)
theorem dX0_flownBy_44 : decode cX0_flownBy 44 = .ok (.ireturn, 1) := dk_172 (dk_at dksX0_flownBy_1 22 rfl rfl)
theorem dX0_flownBy_45 : decode cX0_flownBy 45 = .ok (.iinc 2 1, 3) := dk_132 2 1 (dk_at dksX0_flownBy_2 0 rfl rfl)
theorem dX0_flownBy_48 : decode cX0_flownBy 48 = .ok (.goto (-46), 3) := dk_167 255 210 (dk_at dksX0_flownBy_2 3 rfl rfl)
theorem dX0_flownBy_51 : decode cX0_flownBy 51 = .ok (.bipush (-2), 2) := dk_16 254 (dk_at dksX0_flownBy_2 6 rfl rfl)
theorem dX0_flownBy_53 : decode cX0_flownBy 53 = .ok (.ireturn, 1) := dk_172 (dk_at dksX0_flownBy_2 8 rfl rfl)
abbrev cX0_crewOf : ByteArray := prog_1_method_6_code
def yX0_crewOf : MethodName := ⟨RX0, "crewOf", "(I)LCrewPairer$Crew;"⟩
def dkwX0_crewOf_0 : List UInt8 := [42, 180, 0, 10, 180, 0, 76, 27, 182, 0, 79, 192, 0, 85, 176]
abbrev dktX0_crewOf_0 : List UInt8 := dkwX0_crewOf_0 ++ []
theorem dksX0_crewOf_0 : cX0_crewOf.data.toList.drop 0 = dktX0_crewOf_0 := by decide +kernel
theorem dX0_crewOf_0 : decode cX0_crewOf 0 = .ok (.aload_n 0, 1) := dk_42 (dk_at dksX0_crewOf_0 0 rfl rfl)
theorem dX0_crewOf_1 : decode cX0_crewOf 1 = .ok (.getfield 10, 3) := dk_180 0 10 (dk_at dksX0_crewOf_0 1 rfl rfl)
theorem dX0_crewOf_4 : decode cX0_crewOf 4 = .ok (.getfield 76, 3) := dk_180 0 76 (dk_at dksX0_crewOf_0 4 rfl rfl)
theorem dX0_crewOf_7 : decode cX0_crewOf 7 = .ok (.iload_n 1, 1) := dk_27 (dk_at dksX0_crewOf_0 7 rfl rfl)
theorem dX0_crewOf_8 : decode cX0_crewOf 8 = .ok (.invokevirtual 79, 3) := dk_182 0 79 (dk_at dksX0_crewOf_0 8 rfl rfl)
theorem dX0_crewOf_11 : decode cX0_crewOf 11 = .ok (.checkcast 85, 3) := dk_192 0 85 (dk_at dksX0_crewOf_0 11 rfl rfl)
theorem dX0_crewOf_14 : decode cX0_crewOf 14 = .ok (.areturn, 1) := dk_176 (dk_at dksX0_crewOf_0 14 rfl rfl)
abbrev cX0_setRule : ByteArray := prog_1_method_22_code
def yX0_setRule : MethodName := ⟨RX0, "setRule", "(II)I"⟩
def dkwX0_setRule_2 : List UInt8 := [180, 0, 190, 27, 28, 79, 29, 172]
abbrev dktX0_setRule_2 : List UInt8 := dkwX0_setRule_2 ++ []
def dkwX0_setRule_1 : List UInt8 := [154, 0, 5, 2, 172, 42, 182, 0, 112, 42, 180, 0, 10, 180, 0, 190, 27, 46, 62, 42, 180, 0, 10]
abbrev dktX0_setRule_1 : List UInt8 := dkwX0_setRule_1 ++ dktX0_setRule_2
def dkwX0_setRule_0 : List UInt8 := [27, 3, 16, 7, 184, 0, 72, 153, 0, 18, 28, 27, 184, 0, 184, 27, 184, 0, 187, 184, 0, 72]
abbrev dktX0_setRule_0 : List UInt8 := dkwX0_setRule_0 ++ dktX0_setRule_1
theorem dksX0_setRule_0 : cX0_setRule.data.toList.drop 0 = dktX0_setRule_0 := by decide +kernel
theorem dksX0_setRule_1 : cX0_setRule.data.toList.drop 22 = dktX0_setRule_1 := dk_seg dksX0_setRule_0 22 rfl rfl
theorem dksX0_setRule_2 : cX0_setRule.data.toList.drop 45 = dktX0_setRule_2 := dk_seg dksX0_setRule_1 23 rfl rfl
theorem dX0_setRule_0 : decode cX0_setRule 0 = .ok (.iload_n 1, 1) := dk_27 (dk_at dksX0_setRule_0 0 rfl rfl)
theorem dX0_setRule_1 : decode cX0_setRule 1 = .ok (.iconst 0, 1) := dk_3 (dk_at dksX0_setRule_0 1 rfl rfl)
theorem dX0_setRule_2 : decode cX0_setRule 2 = .ok (.bipush 7, 2) := dk_16 7 (dk_at dksX0_setRule_0 2 rfl rfl)
theorem dX0_setRule_4 : decode cX0_setRule 4 = .ok (.invokestatic 72, 3) := dk_184 0 72 (dk_at dksX0_setRule_0 4 rfl rfl)
theorem dX0_setRule_7 : decode cX0_setRule 7 = .ok (.ifCond .eq 18, 3) := dk_153 0 18 (dk_at dksX0_setRule_0 7 rfl rfl)
theorem dX0_setRule_10 : decode cX0_setRule 10 = .ok (.iload_n 2, 1) := dk_28 (dk_at dksX0_setRule_0 10 rfl rfl)
theorem dX0_setRule_11 : decode cX0_setRule 11 = .ok (.iload_n 1, 1) := dk_27 (dk_at dksX0_setRule_0 11 rfl rfl)
theorem dX0_setRule_12 : decode cX0_setRule 12 = .ok (.invokestatic 184, 3) := dk_184 0 184 (dk_at dksX0_setRule_0 12 rfl rfl)
theorem dX0_setRule_15 : decode cX0_setRule 15 = .ok (.iload_n 1, 1) := dk_27 (dk_at dksX0_setRule_0 15 rfl rfl)
theorem dX0_setRule_16 : decode cX0_setRule 16 = .ok (.invokestatic 187, 3) := dk_184 0 187 (dk_at dksX0_setRule_0 16 rfl rfl)
theorem dX0_setRule_19 : decode cX0_setRule 19 = .ok (.invokestatic 72, 3) := dk_184 0 72 (dk_at dksX0_setRule_0 19 rfl rfl)
theorem dX0_setRule_22 : decode cX0_setRule 22 = .ok (.ifCond .ne 5, 3) := dk_154 0 5 (dk_at dksX0_setRule_1 0 rfl rfl)
theorem dX0_setRule_25 : decode cX0_setRule 25 = .ok (.iconst (-1), 1) := dk_2 (dk_at dksX0_setRule_1 3 rfl rfl)
theorem dX0_setRule_26 : decode cX0_setRule 26 = .ok (.ireturn, 1) := dk_172 (dk_at dksX0_setRule_1 4 rfl rfl)
theorem dX0_setRule_27 : decode cX0_setRule 27 = .ok (.aload_n 0, 1) := dk_42 (dk_at dksX0_setRule_1 5 rfl rfl)
theorem dX0_setRule_28 : decode cX0_setRule 28 = .ok (.invokevirtual 112, 3) := dk_182 0 112 (dk_at dksX0_setRule_1 6 rfl rfl)
theorem dX0_setRule_31 : decode cX0_setRule 31 = .ok (.aload_n 0, 1) := dk_42 (dk_at dksX0_setRule_1 9 rfl rfl)
theorem dX0_setRule_32 : decode cX0_setRule 32 = .ok (.getfield 10, 3) := dk_180 0 10 (dk_at dksX0_setRule_1 10 rfl rfl)
theorem dX0_setRule_35 : decode cX0_setRule 35 = .ok (.getfield 190, 3) := dk_180 0 190 (dk_at dksX0_setRule_1 13 rfl rfl)
theorem dX0_setRule_38 : decode cX0_setRule 38 = .ok (.iload_n 1, 1) := dk_27 (dk_at dksX0_setRule_1 16 rfl rfl)
theorem dX0_setRule_39 : decode cX0_setRule 39 = .ok (.iaload, 1) := dk_46 (dk_at dksX0_setRule_1 17 rfl rfl)
theorem dX0_setRule_40 : decode cX0_setRule 40 = .ok (.istore_n 3, 1) := dk_62 (dk_at dksX0_setRule_1 18 rfl rfl)
theorem dX0_setRule_41 : decode cX0_setRule 41 = .ok (.aload_n 0, 1) := dk_42 (dk_at dksX0_setRule_1 19 rfl rfl)
theorem dX0_setRule_42 : decode cX0_setRule 42 = .ok (.getfield 10, 3) := dk_180 0 10 (dk_at dksX0_setRule_1 20 rfl rfl)
theorem dX0_setRule_45 : decode cX0_setRule 45 = .ok (.getfield 190, 3) := dk_180 0 190 (dk_at dksX0_setRule_2 0 rfl rfl)
theorem dX0_setRule_48 : decode cX0_setRule 48 = .ok (.iload_n 1, 1) := dk_27 (dk_at dksX0_setRule_2 3 rfl rfl)
theorem dX0_setRule_49 : decode cX0_setRule 49 = .ok (.iload_n 2, 1) := dk_28 (dk_at dksX0_setRule_2 4 rfl rfl)
theorem dX0_setRule_50 : decode cX0_setRule 50 = .ok (.iastore, 1) := dk_79 (dk_at dksX0_setRule_2 5 rfl rfl)
theorem dX0_setRule_51 : decode cX0_setRule 51 = .ok (.iload_n 3, 1) := dk_29 (dk_at dksX0_setRule_2 6 rfl rfl)
theorem dX0_setRule_52 : decode cX0_setRule 52 = .ok (.ireturn, 1) := dk_172 (dk_at dksX0_setRule_2 7 rfl rfl)
abbrev cX0_least : ByteArray := prog_1_method_20_code
def yX0_least : MethodName := ⟨RX0, "least", "(I)I"⟩
def dkwX0_least_2 : List UInt8 := [16, 10, 167, 0, 19, 17, 1, 44, 167, 0, 13, 16, 120, 167, 0, 8, 4, 167, 0, 4, 3, 172]
abbrev dktX0_least_2 : List UInt8 := dkwX0_least_2 ++ []
def dkwX0_least_1 : List UInt8 := [170, 0, 0, 0, 0, 0, 59, 0, 0, 0, 0, 0, 0, 0, 5, 0, 0, 0, 39, 0, 0, 0, 44, 0, 0, 0, 44, 0, 0, 0, 50, 0, 0, 0, 55, 0, 0, 0, 50]
abbrev dktX0_least_1 : List UInt8 := dkwX0_least_1 ++ dktX0_least_2
def dkwX0_least_0 : List UInt8 := [26]
abbrev dktX0_least_0 : List UInt8 := dkwX0_least_0 ++ dktX0_least_1
theorem dksX0_least_0 : cX0_least.data.toList.drop 0 = dktX0_least_0 := by decide +kernel
theorem dksX0_least_1 : cX0_least.data.toList.drop 1 = dktX0_least_1 := dk_seg dksX0_least_0 1 rfl rfl
theorem dksX0_least_2 : cX0_least.data.toList.drop 40 = dktX0_least_2 := dk_seg dksX0_least_1 39 rfl rfl
theorem dX0_least_0 : decode cX0_least 0 = .ok (.iload_n 0, 1) := dk_26 (dk_at dksX0_least_0 0 rfl rfl)
theorem dX0_least_1 : decode cX0_least 1 = .ok (.tableswitch 59 0 5 #[39, 44, 44, 50, 55, 50], 39) := by decide +kernel
theorem dX0_least_40 : decode cX0_least 40 = .ok (.bipush 10, 2) := dk_16 10 (dk_at dksX0_least_2 0 rfl rfl)
theorem dX0_least_42 : decode cX0_least 42 = .ok (.goto 19, 3) := dk_167 0 19 (dk_at dksX0_least_2 2 rfl rfl)
theorem dX0_least_45 : decode cX0_least 45 = .ok (.sipush 300, 3) := dk_17 1 44 (dk_at dksX0_least_2 5 rfl rfl)
theorem dX0_least_48 : decode cX0_least 48 = .ok (.goto 13, 3) := dk_167 0 13 (dk_at dksX0_least_2 8 rfl rfl)
theorem dX0_least_51 : decode cX0_least 51 = .ok (.bipush 120, 2) := dk_16 120 (dk_at dksX0_least_2 11 rfl rfl)
theorem dX0_least_53 : decode cX0_least 53 = .ok (.goto 8, 3) := dk_167 0 8 (dk_at dksX0_least_2 13 rfl rfl)
theorem dX0_least_56 : decode cX0_least 56 = .ok (.iconst 1, 1) := dk_4 (dk_at dksX0_least_2 16 rfl rfl)
theorem dX0_least_57 : decode cX0_least 57 = .ok (.goto 4, 3) := dk_167 0 4 (dk_at dksX0_least_2 17 rfl rfl)
theorem dX0_least_60 : decode cX0_least 60 = .ok (.iconst 0, 1) := dk_3 (dk_at dksX0_least_2 20 rfl rfl)
theorem dX0_least_61 : decode cX0_least 61 = .ok (.ireturn, 1) := dk_172 (dk_at dksX0_least_2 21 rfl rfl)
abbrev cX0_most : ByteArray := prog_1_method_21_code
def yX0_most : MethodName := ⟨RX0, "most", "(I)I"⟩
def dkwX0_most_3 : List UInt8 := [16, 8, 167, 0, 17, 17, 4, 176, 167, 0, 11, 16, 99, 167, 0, 6, 17, 39, 15, 172]
abbrev dktX0_most_3 : List UInt8 := dkwX0_most_3 ++ []
def dkwX0_most_2 : List UInt8 := [16, 120, 167, 0, 40, 17, 3, 132, 167, 0, 34, 17, 3, 192, 167, 0, 28, 17, 2, 208, 167, 0, 22]
abbrev dktX0_most_2 : List UInt8 := dkwX0_most_2 ++ dktX0_most_3
def dkwX0_most_1 : List UInt8 := [170, 0, 0, 0, 0, 0, 82, 0, 0, 0, 0, 0, 0, 0, 6, 0, 0, 0, 43, 0, 0, 0, 48, 0, 0, 0, 54, 0, 0, 0, 60, 0, 0, 0, 66, 0, 0, 0, 71, 0, 0, 0, 77]
abbrev dktX0_most_1 : List UInt8 := dkwX0_most_1 ++ dktX0_most_2
def dkwX0_most_0 : List UInt8 := [26]
abbrev dktX0_most_0 : List UInt8 := dkwX0_most_0 ++ dktX0_most_1
theorem dksX0_most_0 : cX0_most.data.toList.drop 0 = dktX0_most_0 := by decide +kernel
theorem dksX0_most_1 : cX0_most.data.toList.drop 1 = dktX0_most_1 := dk_seg dksX0_most_0 1 rfl rfl
theorem dksX0_most_2 : cX0_most.data.toList.drop 44 = dktX0_most_2 := dk_seg dksX0_most_1 43 rfl rfl
theorem dksX0_most_3 : cX0_most.data.toList.drop 67 = dktX0_most_3 := dk_seg dksX0_most_2 23 rfl rfl
theorem dX0_most_0 : decode cX0_most 0 = .ok (.iload_n 0, 1) := dk_26 (dk_at dksX0_most_0 0 rfl rfl)
theorem dX0_most_1 : decode cX0_most 1 = .ok (.tableswitch 82 0 6 #[43, 48, 54, 60, 66, 71, 77], 43) := by decide +kernel
theorem dX0_most_44 : decode cX0_most 44 = .ok (.bipush 120, 2) := dk_16 120 (dk_at dksX0_most_2 0 rfl rfl)
theorem dX0_most_46 : decode cX0_most 46 = .ok (.goto 40, 3) := dk_167 0 40 (dk_at dksX0_most_2 2 rfl rfl)
theorem dX0_most_49 : decode cX0_most 49 = .ok (.sipush 900, 3) := dk_17 3 132 (dk_at dksX0_most_2 5 rfl rfl)
theorem dX0_most_52 : decode cX0_most 52 = .ok (.goto 34, 3) := dk_167 0 34 (dk_at dksX0_most_2 8 rfl rfl)
theorem dX0_most_55 : decode cX0_most 55 = .ok (.sipush 960, 3) := dk_17 3 192 (dk_at dksX0_most_2 11 rfl rfl)
theorem dX0_most_58 : decode cX0_most 58 = .ok (.goto 28, 3) := dk_167 0 28 (dk_at dksX0_most_2 14 rfl rfl)
theorem dX0_most_61 : decode cX0_most 61 = .ok (.sipush 720, 3) := dk_17 2 208 (dk_at dksX0_most_2 17 rfl rfl)
theorem dX0_most_64 : decode cX0_most 64 = .ok (.goto 22, 3) := dk_167 0 22 (dk_at dksX0_most_2 20 rfl rfl)
theorem dX0_most_67 : decode cX0_most 67 = .ok (.bipush 8, 2) := dk_16 8 (dk_at dksX0_most_3 0 rfl rfl)
theorem dX0_most_69 : decode cX0_most 69 = .ok (.goto 17, 3) := dk_167 0 17 (dk_at dksX0_most_3 2 rfl rfl)
theorem dX0_most_72 : decode cX0_most 72 = .ok (.sipush 1200, 3) := dk_17 4 176 (dk_at dksX0_most_3 5 rfl rfl)
theorem dX0_most_75 : decode cX0_most 75 = .ok (.goto 11, 3) := dk_167 0 11 (dk_at dksX0_most_3 8 rfl rfl)
theorem dX0_most_78 : decode cX0_most 78 = .ok (.bipush 99, 2) := dk_16 99 (dk_at dksX0_most_3 11 rfl rfl)
theorem dX0_most_80 : decode cX0_most 80 = .ok (.goto 6, 3) := dk_167 0 6 (dk_at dksX0_most_3 13 rfl rfl)
theorem dX0_most_83 : decode cX0_most 83 = .ok (.sipush 9999, 3) := dk_17 39 15 (dk_at dksX0_most_3 16 rfl rfl)
theorem dX0_most_86 : decode cX0_most 86 = .ok (.ireturn, 1) := dk_172 (dk_at dksX0_most_3 19 rfl rfl)
abbrev cX0_rule : ByteArray := prog_1_method_23_code
def yX0_rule : MethodName := ⟨RX0, "rule", "(I)I"⟩
def dkwX0_rule_0 : List UInt8 := [27, 3, 16, 7, 184, 0, 72, 153, 0, 15, 42, 180, 0, 10, 180, 0, 190, 27, 46, 167, 0, 4, 2, 172]
abbrev dktX0_rule_0 : List UInt8 := dkwX0_rule_0 ++ []
theorem dksX0_rule_0 : cX0_rule.data.toList.drop 0 = dktX0_rule_0 := by decide +kernel
theorem dX0_rule_0 : decode cX0_rule 0 = .ok (.iload_n 1, 1) := dk_27 (dk_at dksX0_rule_0 0 rfl rfl)
theorem dX0_rule_1 : decode cX0_rule 1 = .ok (.iconst 0, 1) := dk_3 (dk_at dksX0_rule_0 1 rfl rfl)
theorem dX0_rule_2 : decode cX0_rule 2 = .ok (.bipush 7, 2) := dk_16 7 (dk_at dksX0_rule_0 2 rfl rfl)
theorem dX0_rule_4 : decode cX0_rule 4 = .ok (.invokestatic 72, 3) := dk_184 0 72 (dk_at dksX0_rule_0 4 rfl rfl)
theorem dX0_rule_7 : decode cX0_rule 7 = .ok (.ifCond .eq 15, 3) := dk_153 0 15 (dk_at dksX0_rule_0 7 rfl rfl)
theorem dX0_rule_10 : decode cX0_rule 10 = .ok (.aload_n 0, 1) := dk_42 (dk_at dksX0_rule_0 10 rfl rfl)
theorem dX0_rule_11 : decode cX0_rule 11 = .ok (.getfield 10, 3) := dk_180 0 10 (dk_at dksX0_rule_0 11 rfl rfl)
theorem dX0_rule_14 : decode cX0_rule 14 = .ok (.getfield 190, 3) := dk_180 0 190 (dk_at dksX0_rule_0 14 rfl rfl)
theorem dX0_rule_17 : decode cX0_rule 17 = .ok (.iload_n 1, 1) := dk_27 (dk_at dksX0_rule_0 17 rfl rfl)
theorem dX0_rule_18 : decode cX0_rule 18 = .ok (.iaload, 1) := dk_46 (dk_at dksX0_rule_0 18 rfl rfl)
theorem dX0_rule_19 : decode cX0_rule 19 = .ok (.goto 4, 3) := dk_167 0 4 (dk_at dksX0_rule_0 19 rfl rfl)
theorem dX0_rule_22 : decode cX0_rule 22 = .ok (.iconst (-1), 1) := dk_2 (dk_at dksX0_rule_0 22 rfl rfl)
theorem dX0_rule_23 : decode cX0_rule 23 = .ok (.ireturn, 1) := dk_172 (dk_at dksX0_rule_0 23 rfl rfl)
abbrev cX0_fly : ByteArray := prog_1_method_42_code
def yX0_fly : MethodName := ⟨RX0, "fly", "(II)I"⟩
def dkwX0_fly_0 : List UInt8 := [42, 27, 28, 4, 182, 1, 24, 172]
abbrev dktX0_fly_0 : List UInt8 := dkwX0_fly_0 ++ []
theorem dksX0_fly_0 : cX0_fly.data.toList.drop 0 = dktX0_fly_0 := by decide +kernel
theorem dX0_fly_0 : decode cX0_fly 0 = .ok (.aload_n 0, 1) := dk_42 (dk_at dksX0_fly_0 0 rfl rfl)
theorem dX0_fly_1 : decode cX0_fly 1 = .ok (.iload_n 1, 1) := dk_27 (dk_at dksX0_fly_0 1 rfl rfl)
theorem dX0_fly_2 : decode cX0_fly 2 = .ok (.iload_n 2, 1) := dk_28 (dk_at dksX0_fly_0 2 rfl rfl)
theorem dX0_fly_3 : decode cX0_fly 3 = .ok (.iconst 1, 1) := dk_4 (dk_at dksX0_fly_0 3 rfl rfl)
theorem dX0_fly_4 : decode cX0_fly 4 = .ok (.invokevirtual 280, 3) := dk_182 1 24 (dk_at dksX0_fly_0 4 rfl rfl)
theorem dX0_fly_7 : decode cX0_fly 7 = .ok (.ireturn, 1) := dk_172 (dk_at dksX0_fly_0 7 rfl rfl)
abbrev cX0_take : ByteArray := prog_1_method_41_code
def yX0_take : MethodName := ⟨RX0, "take", "(IIZ)I"⟩
def dkwX0_take_2 : List UInt8 := [182, 1, 21, 42, 27, 182, 0, 160, 28, 182, 0, 164, 172]
abbrev dktX0_take_2 : List UInt8 := dkwX0_take_2 ++ []
def dkwX0_take_1 : List UInt8 := [182, 1, 17, 54, 4, 21, 4, 158, 0, 9, 16, 156, 21, 4, 100, 172, 42, 182, 0, 112, 42, 27]
abbrev dktX0_take_1 : List UInt8 := dkwX0_take_1 ++ dktX0_take_2
def dkwX0_take_0 : List UInt8 := [42, 27, 182, 1, 14, 153, 0, 11, 42, 28, 182, 0, 177, 154, 0, 5, 2, 172, 42, 27, 28, 29]
abbrev dktX0_take_0 : List UInt8 := dkwX0_take_0 ++ dktX0_take_1
theorem dksX0_take_0 : cX0_take.data.toList.drop 0 = dktX0_take_0 := by decide +kernel
theorem dksX0_take_1 : cX0_take.data.toList.drop 22 = dktX0_take_1 := dk_seg dksX0_take_0 22 rfl rfl
theorem dksX0_take_2 : cX0_take.data.toList.drop 44 = dktX0_take_2 := dk_seg dksX0_take_1 22 rfl rfl
theorem dX0_take_0 : decode cX0_take 0 = .ok (.aload_n 0, 1) := dk_42 (dk_at dksX0_take_0 0 rfl rfl)
theorem dX0_take_1 : decode cX0_take 1 = .ok (.iload_n 1, 1) := dk_27 (dk_at dksX0_take_0 1 rfl rfl)
theorem dX0_take_2 : decode cX0_take 2 = .ok (.invokevirtual 270, 3) := dk_182 1 14 (dk_at dksX0_take_0 2 rfl rfl)
theorem dX0_take_5 : decode cX0_take 5 = .ok (.ifCond .eq 11, 3) := dk_153 0 11 (dk_at dksX0_take_0 5 rfl rfl)
theorem dX0_take_8 : decode cX0_take 8 = .ok (.aload_n 0, 1) := dk_42 (dk_at dksX0_take_0 8 rfl rfl)
theorem dX0_take_9 : decode cX0_take 9 = .ok (.iload_n 2, 1) := dk_28 (dk_at dksX0_take_0 9 rfl rfl)
theorem dX0_take_10 : decode cX0_take 10 = .ok (.invokevirtual 177, 3) := dk_182 0 177 (dk_at dksX0_take_0 10 rfl rfl)
theorem dX0_take_13 : decode cX0_take 13 = .ok (.ifCond .ne 5, 3) := dk_154 0 5 (dk_at dksX0_take_0 13 rfl rfl)
theorem dX0_take_16 : decode cX0_take 16 = .ok (.iconst (-1), 1) := dk_2 (dk_at dksX0_take_0 16 rfl rfl)
theorem dX0_take_17 : decode cX0_take 17 = .ok (.ireturn, 1) := dk_172 (dk_at dksX0_take_0 17 rfl rfl)
theorem dX0_take_18 : decode cX0_take 18 = .ok (.aload_n 0, 1) := dk_42 (dk_at dksX0_take_0 18 rfl rfl)
theorem dX0_take_19 : decode cX0_take 19 = .ok (.iload_n 1, 1) := dk_27 (dk_at dksX0_take_0 19 rfl rfl)
theorem dX0_take_20 : decode cX0_take 20 = .ok (.iload_n 2, 1) := dk_28 (dk_at dksX0_take_0 20 rfl rfl)
theorem dX0_take_21 : decode cX0_take 21 = .ok (.iload_n 3, 1) := dk_29 (dk_at dksX0_take_0 21 rfl rfl)
theorem dX0_take_22 : decode cX0_take 22 = .ok (.invokevirtual 273, 3) := dk_182 1 17 (dk_at dksX0_take_1 0 rfl rfl)
theorem dX0_take_25 : decode cX0_take 25 = .ok (.istore 4, 2) := dk_54 4 (dk_at dksX0_take_1 3 rfl rfl)
theorem dX0_take_27 : decode cX0_take 27 = .ok (.iload 4, 2) := dk_21 4 (dk_at dksX0_take_1 5 rfl rfl)
theorem dX0_take_29 : decode cX0_take 29 = .ok (.ifCond .le 9, 3) := dk_158 0 9 (dk_at dksX0_take_1 7 rfl rfl)
theorem dX0_take_32 : decode cX0_take 32 = .ok (.bipush (-100), 2) := dk_16 156 (dk_at dksX0_take_1 10 rfl rfl)
theorem dX0_take_34 : decode cX0_take 34 = .ok (.iload 4, 2) := dk_21 4 (dk_at dksX0_take_1 12 rfl rfl)
theorem dX0_take_36 : decode cX0_take 36 = .ok (.isub, 1) := dk_100 (dk_at dksX0_take_1 14 rfl rfl)
theorem dX0_take_37 : decode cX0_take 37 = .ok (.ireturn, 1) := dk_172 (dk_at dksX0_take_1 15 rfl rfl)
theorem dX0_take_38 : decode cX0_take 38 = .ok (.aload_n 0, 1) := dk_42 (dk_at dksX0_take_1 16 rfl rfl)
theorem dX0_take_39 : decode cX0_take 39 = .ok (.invokevirtual 112, 3) := dk_182 0 112 (dk_at dksX0_take_1 17 rfl rfl)
theorem dX0_take_42 : decode cX0_take 42 = .ok (.aload_n 0, 1) := dk_42 (dk_at dksX0_take_1 20 rfl rfl)
theorem dX0_take_43 : decode cX0_take 43 = .ok (.iload_n 1, 1) := dk_27 (dk_at dksX0_take_1 21 rfl rfl)
theorem dX0_take_44 : decode cX0_take 44 = .ok (.invokevirtual 277, 3) := dk_182 1 21 (dk_at dksX0_take_2 0 rfl rfl)
theorem dX0_take_47 : decode cX0_take 47 = .ok (.aload_n 0, 1) := dk_42 (dk_at dksX0_take_2 3 rfl rfl)
theorem dX0_take_48 : decode cX0_take 48 = .ok (.iload_n 1, 1) := dk_27 (dk_at dksX0_take_2 4 rfl rfl)
theorem dX0_take_49 : decode cX0_take 49 = .ok (.invokevirtual 160, 3) := dk_182 0 160 (dk_at dksX0_take_2 5 rfl rfl)
theorem dX0_take_52 : decode cX0_take 52 = .ok (.iload_n 2, 1) := dk_28 (dk_at dksX0_take_2 8 rfl rfl)
theorem dX0_take_53 : decode cX0_take 53 = .ok (.invokevirtual 164, 3) := dk_182 0 164 (dk_at dksX0_take_2 9 rfl rfl)
theorem dX0_take_56 : decode cX0_take 56 = .ok (.ireturn, 1) := dk_172 (dk_at dksX0_take_2 12 rfl rfl)
abbrev cX0_isCrew : ByteArray := prog_1_method_4_code
def yX0_isCrew : MethodName := ⟨RX0, "isCrew", "(I)Z"⟩
def dkwX0_isCrew_0 : List UInt8 := [27, 3, 42, 180, 0, 10, 180, 0, 76, 182, 0, 66, 4, 100, 184, 0, 72, 172]
abbrev dktX0_isCrew_0 : List UInt8 := dkwX0_isCrew_0 ++ []
theorem dksX0_isCrew_0 : cX0_isCrew.data.toList.drop 0 = dktX0_isCrew_0 := by decide +kernel
theorem dX0_isCrew_0 : decode cX0_isCrew 0 = .ok (.iload_n 1, 1) := dk_27 (dk_at dksX0_isCrew_0 0 rfl rfl)
theorem dX0_isCrew_1 : decode cX0_isCrew 1 = .ok (.iconst 0, 1) := dk_3 (dk_at dksX0_isCrew_0 1 rfl rfl)
theorem dX0_isCrew_2 : decode cX0_isCrew 2 = .ok (.aload_n 0, 1) := dk_42 (dk_at dksX0_isCrew_0 2 rfl rfl)
theorem dX0_isCrew_3 : decode cX0_isCrew 3 = .ok (.getfield 10, 3) := dk_180 0 10 (dk_at dksX0_isCrew_0 3 rfl rfl)
theorem dX0_isCrew_6 : decode cX0_isCrew 6 = .ok (.getfield 76, 3) := dk_180 0 76 (dk_at dksX0_isCrew_0 6 rfl rfl)
theorem dX0_isCrew_9 : decode cX0_isCrew 9 = .ok (.invokevirtual 66, 3) := dk_182 0 66 (dk_at dksX0_isCrew_0 9 rfl rfl)
theorem dX0_isCrew_12 : decode cX0_isCrew 12 = .ok (.iconst 1, 1) := dk_4 (dk_at dksX0_isCrew_0 12 rfl rfl)
theorem dX0_isCrew_13 : decode cX0_isCrew 13 = .ok (.isub, 1) := dk_100 (dk_at dksX0_isCrew_0 13 rfl rfl)
theorem dX0_isCrew_14 : decode cX0_isCrew 14 = .ok (.invokestatic 72, 3) := dk_184 0 72 (dk_at dksX0_isCrew_0 14 rfl rfl)
theorem dX0_isCrew_17 : decode cX0_isCrew 17 = .ok (.ireturn, 1) := dk_172 (dk_at dksX0_isCrew_0 17 rfl rfl)
abbrev cX0_reasonOf : ByteArray := prog_1_method_39_code
def yX0_reasonOf : MethodName := ⟨RX0, "reasonOf", "(IIZ)I"⟩
def dkwX0_reasonOf_0 : List UInt8 := [42, 27, 182, 1, 0, 42, 28, 29, 182, 1, 3, 172]
abbrev dktX0_reasonOf_0 : List UInt8 := dkwX0_reasonOf_0 ++ []
theorem dksX0_reasonOf_0 : cX0_reasonOf.data.toList.drop 0 = dktX0_reasonOf_0 := by decide +kernel
theorem dX0_reasonOf_0 : decode cX0_reasonOf 0 = .ok (.aload_n 0, 1) := dk_42 (dk_at dksX0_reasonOf_0 0 rfl rfl)
theorem dX0_reasonOf_1 : decode cX0_reasonOf 1 = .ok (.iload_n 1, 1) := dk_27 (dk_at dksX0_reasonOf_0 1 rfl rfl)
theorem dX0_reasonOf_2 : decode cX0_reasonOf 2 = .ok (.invokevirtual 256, 3) := dk_182 1 0 (dk_at dksX0_reasonOf_0 2 rfl rfl)
theorem dX0_reasonOf_5 : decode cX0_reasonOf 5 = .ok (.aload_n 0, 1) := dk_42 (dk_at dksX0_reasonOf_0 5 rfl rfl)
theorem dX0_reasonOf_6 : decode cX0_reasonOf 6 = .ok (.iload_n 2, 1) := dk_28 (dk_at dksX0_reasonOf_0 6 rfl rfl)
theorem dX0_reasonOf_7 : decode cX0_reasonOf 7 = .ok (.iload_n 3, 1) := dk_29 (dk_at dksX0_reasonOf_0 7 rfl rfl)
theorem dX0_reasonOf_8 : decode cX0_reasonOf 8 = .ok (.invokevirtual 259, 3) := dk_182 1 3 (dk_at dksX0_reasonOf_0 8 rfl rfl)
theorem dX0_reasonOf_11 : decode cX0_reasonOf 11 = .ok (.ireturn, 1) := dk_172 (dk_at dksX0_reasonOf_0 11 rfl rfl)
abbrev cX0_loadRow : ByteArray := prog_1_method_24_code
def yX0_loadRow : MethodName := ⟨RX0, "loadRow", "(I)V"⟩
def dkwX0_loadRow_2 : List UInt8 := [180, 0, 27, 3, 42, 180, 0, 202, 184, 0, 91, 177]
abbrev dktX0_loadRow_2 : List UInt8 := dkwX0_loadRow_2 ++ []
def dkwX0_loadRow_1 : List UInt8 := [180, 0, 205, 3, 42, 180, 0, 20, 3, 42, 180, 0, 202, 184, 0, 91, 44, 180, 0, 168, 3, 42]
abbrev dktX0_loadRow_1 : List UInt8 := dkwX0_loadRow_1 ++ dktX0_loadRow_2
def dkwX0_loadRow_0 : List UInt8 := [42, 27, 182, 0, 160, 77, 42, 44, 180, 0, 193, 181, 0, 196, 42, 44, 180, 0, 199, 181, 0, 202, 44]
abbrev dktX0_loadRow_0 : List UInt8 := dkwX0_loadRow_0 ++ dktX0_loadRow_1
theorem dksX0_loadRow_0 : cX0_loadRow.data.toList.drop 0 = dktX0_loadRow_0 := by decide +kernel
theorem dksX0_loadRow_1 : cX0_loadRow.data.toList.drop 23 = dktX0_loadRow_1 := dk_seg dksX0_loadRow_0 23 rfl rfl
theorem dksX0_loadRow_2 : cX0_loadRow.data.toList.drop 45 = dktX0_loadRow_2 := dk_seg dksX0_loadRow_1 22 rfl rfl
theorem dX0_loadRow_0 : decode cX0_loadRow 0 = .ok (.aload_n 0, 1) := dk_42 (dk_at dksX0_loadRow_0 0 rfl rfl)
theorem dX0_loadRow_1 : decode cX0_loadRow 1 = .ok (.iload_n 1, 1) := dk_27 (dk_at dksX0_loadRow_0 1 rfl rfl)
theorem dX0_loadRow_2 : decode cX0_loadRow 2 = .ok (.invokevirtual 160, 3) := dk_182 0 160 (dk_at dksX0_loadRow_0 2 rfl rfl)
theorem dX0_loadRow_5 : decode cX0_loadRow 5 = .ok (.astore_n 2, 1) := dk_77 (dk_at dksX0_loadRow_0 5 rfl rfl)
theorem dX0_loadRow_6 : decode cX0_loadRow 6 = .ok (.aload_n 0, 1) := dk_42 (dk_at dksX0_loadRow_0 6 rfl rfl)
theorem dX0_loadRow_7 : decode cX0_loadRow 7 = .ok (.aload_n 2, 1) := dk_44 (dk_at dksX0_loadRow_0 7 rfl rfl)
theorem dX0_loadRow_8 : decode cX0_loadRow 8 = .ok (.getfield 193, 3) := dk_180 0 193 (dk_at dksX0_loadRow_0 8 rfl rfl)
theorem dX0_loadRow_11 : decode cX0_loadRow 11 = .ok (.putfield 196, 3) := dk_181 0 196 (dk_at dksX0_loadRow_0 11 rfl rfl)
theorem dX0_loadRow_14 : decode cX0_loadRow 14 = .ok (.aload_n 0, 1) := dk_42 (dk_at dksX0_loadRow_0 14 rfl rfl)
theorem dX0_loadRow_15 : decode cX0_loadRow 15 = .ok (.aload_n 2, 1) := dk_44 (dk_at dksX0_loadRow_0 15 rfl rfl)
theorem dX0_loadRow_16 : decode cX0_loadRow 16 = .ok (.getfield 199, 3) := dk_180 0 199 (dk_at dksX0_loadRow_0 16 rfl rfl)
theorem dX0_loadRow_19 : decode cX0_loadRow 19 = .ok (.putfield 202, 3) := dk_181 0 202 (dk_at dksX0_loadRow_0 19 rfl rfl)
theorem dX0_loadRow_22 : decode cX0_loadRow 22 = .ok (.aload_n 2, 1) := dk_44 (dk_at dksX0_loadRow_0 22 rfl rfl)
theorem dX0_loadRow_23 : decode cX0_loadRow 23 = .ok (.getfield 205, 3) := dk_180 0 205 (dk_at dksX0_loadRow_1 0 rfl rfl)
theorem dX0_loadRow_26 : decode cX0_loadRow 26 = .ok (.iconst 0, 1) := dk_3 (dk_at dksX0_loadRow_1 3 rfl rfl)
theorem dX0_loadRow_27 : decode cX0_loadRow 27 = .ok (.aload_n 0, 1) := dk_42 (dk_at dksX0_loadRow_1 4 rfl rfl)
theorem dX0_loadRow_28 : decode cX0_loadRow 28 = .ok (.getfield 20, 3) := dk_180 0 20 (dk_at dksX0_loadRow_1 5 rfl rfl)
theorem dX0_loadRow_31 : decode cX0_loadRow 31 = .ok (.iconst 0, 1) := dk_3 (dk_at dksX0_loadRow_1 8 rfl rfl)
theorem dX0_loadRow_32 : decode cX0_loadRow 32 = .ok (.aload_n 0, 1) := dk_42 (dk_at dksX0_loadRow_1 9 rfl rfl)
theorem dX0_loadRow_33 : decode cX0_loadRow 33 = .ok (.getfield 202, 3) := dk_180 0 202 (dk_at dksX0_loadRow_1 10 rfl rfl)
theorem dX0_loadRow_36 : decode cX0_loadRow 36 = .ok (.invokestatic 91, 3) := dk_184 0 91 (dk_at dksX0_loadRow_1 13 rfl rfl)
theorem dX0_loadRow_39 : decode cX0_loadRow 39 = .ok (.aload_n 2, 1) := dk_44 (dk_at dksX0_loadRow_1 16 rfl rfl)
theorem dX0_loadRow_40 : decode cX0_loadRow 40 = .ok (.getfield 168, 3) := dk_180 0 168 (dk_at dksX0_loadRow_1 17 rfl rfl)
theorem dX0_loadRow_43 : decode cX0_loadRow 43 = .ok (.iconst 0, 1) := dk_3 (dk_at dksX0_loadRow_1 20 rfl rfl)
theorem dX0_loadRow_44 : decode cX0_loadRow 44 = .ok (.aload_n 0, 1) := dk_42 (dk_at dksX0_loadRow_1 21 rfl rfl)
theorem dX0_loadRow_45 : decode cX0_loadRow 45 = .ok (.getfield 27, 3) := dk_180 0 27 (dk_at dksX0_loadRow_2 0 rfl rfl)
theorem dX0_loadRow_48 : decode cX0_loadRow 48 = .ok (.iconst 0, 1) := dk_3 (dk_at dksX0_loadRow_2 3 rfl rfl)
theorem dX0_loadRow_49 : decode cX0_loadRow 49 = .ok (.aload_n 0, 1) := dk_42 (dk_at dksX0_loadRow_2 4 rfl rfl)
theorem dX0_loadRow_50 : decode cX0_loadRow 50 = .ok (.getfield 202, 3) := dk_180 0 202 (dk_at dksX0_loadRow_2 5 rfl rfl)
theorem dX0_loadRow_53 : decode cX0_loadRow 53 = .ok (.invokestatic 91, 3) := dk_184 0 91 (dk_at dksX0_loadRow_2 8 rfl rfl)
theorem dX0_loadRow_56 : decode cX0_loadRow 56 = .ok (.return_, 1) := dk_177 (dk_at dksX0_loadRow_2 11 rfl rfl)
abbrev cX0_reasonHere : ByteArray := prog_1_method_40_code
def yX0_reasonHere : MethodName := ⟨RX0, "reasonHere", "(IZ)I"⟩
def dkwX0_reasonHere_3 : List UInt8 := [3, 167, 0, 7, 42, 180, 0, 247, 172]
abbrev dktX0_reasonHere_3 : List UInt8 := dkwX0_reasonHere_3 ++ []
def dkwX0_reasonHere_2 : List UInt8 := [27, 182, 0, 174, 155, 0, 6, 16, 8, 172, 42, 27, 28, 182, 1, 7, 87, 42, 182, 1, 10, 153, 0, 7]
abbrev dktX0_reasonHere_2 : List UInt8 := dkwX0_reasonHere_2 ++ dktX0_reasonHere_3
def dkwX0_reasonHere_1 : List UInt8 := [42, 180, 0, 20, 29, 46, 27, 160, 0, 6, 16, 9, 172, 132, 3, 1, 167, 255, 232, 28, 153, 0, 14, 42]
abbrev dktX0_reasonHere_1 : List UInt8 := dkwX0_reasonHere_1 ++ dktX0_reasonHere_2
def dkwX0_reasonHere_0 : List UInt8 := [42, 27, 182, 0, 118, 180, 0, 171, 153, 0, 6, 16, 10, 172, 3, 62, 29, 42, 180, 0, 202, 162, 0, 22]
abbrev dktX0_reasonHere_0 : List UInt8 := dkwX0_reasonHere_0 ++ dktX0_reasonHere_1
theorem dksX0_reasonHere_0 : cX0_reasonHere.data.toList.drop 0 = dktX0_reasonHere_0 := by decide +kernel
theorem dksX0_reasonHere_1 : cX0_reasonHere.data.toList.drop 24 = dktX0_reasonHere_1 := dk_seg dksX0_reasonHere_0 24 rfl rfl
theorem dksX0_reasonHere_2 : cX0_reasonHere.data.toList.drop 48 = dktX0_reasonHere_2 := dk_seg dksX0_reasonHere_1 24 rfl rfl
theorem dksX0_reasonHere_3 : cX0_reasonHere.data.toList.drop 72 = dktX0_reasonHere_3 := dk_seg dksX0_reasonHere_2 24 rfl rfl
theorem dX0_reasonHere_0 : decode cX0_reasonHere 0 = .ok (.aload_n 0, 1) := dk_42 (dk_at dksX0_reasonHere_0 0 rfl rfl)
theorem dX0_reasonHere_1 : decode cX0_reasonHere 1 = .ok (.iload_n 1, 1) := dk_27 (dk_at dksX0_reasonHere_0 1 rfl rfl)
theorem dX0_reasonHere_2 : decode cX0_reasonHere 2 = .ok (.invokevirtual 118, 3) := dk_182 0 118 (dk_at dksX0_reasonHere_0 2 rfl rfl)
theorem dX0_reasonHere_5 : decode cX0_reasonHere 5 = .ok (.getfield 171, 3) := dk_180 0 171 (dk_at dksX0_reasonHere_0 5 rfl rfl)
theorem dX0_reasonHere_8 : decode cX0_reasonHere 8 = .ok (.ifCond .eq 6, 3) := dk_153 0 6 (dk_at dksX0_reasonHere_0 8 rfl rfl)
theorem dX0_reasonHere_11 : decode cX0_reasonHere 11 = .ok (.bipush 10, 2) := dk_16 10 (dk_at dksX0_reasonHere_0 11 rfl rfl)
theorem dX0_reasonHere_13 : decode cX0_reasonHere 13 = .ok (.ireturn, 1) := dk_172 (dk_at dksX0_reasonHere_0 13 rfl rfl)
theorem dX0_reasonHere_14 : decode cX0_reasonHere 14 = .ok (.iconst 0, 1) := dk_3 (dk_at dksX0_reasonHere_0 14 rfl rfl)
theorem dX0_reasonHere_15 : decode cX0_reasonHere 15 = .ok (.istore_n 3, 1) := dk_62 (dk_at dksX0_reasonHere_0 15 rfl rfl)
theorem dX0_reasonHere_16 : decode cX0_reasonHere 16 = .ok (.iload_n 3, 1) := dk_29 (dk_at dksX0_reasonHere_0 16 rfl rfl)
theorem dX0_reasonHere_17 : decode cX0_reasonHere 17 = .ok (.aload_n 0, 1) := dk_42 (dk_at dksX0_reasonHere_0 17 rfl rfl)
theorem dX0_reasonHere_18 : decode cX0_reasonHere 18 = .ok (.getfield 202, 3) := dk_180 0 202 (dk_at dksX0_reasonHere_0 18 rfl rfl)
theorem dX0_reasonHere_21 : decode cX0_reasonHere 21 = .ok (.if_icmp .ge 22, 3) := dk_162 0 22 (dk_at dksX0_reasonHere_0 21 rfl rfl)
theorem dX0_reasonHere_24 : decode cX0_reasonHere 24 = .ok (.aload_n 0, 1) := dk_42 (dk_at dksX0_reasonHere_1 0 rfl rfl)
theorem dX0_reasonHere_25 : decode cX0_reasonHere 25 = .ok (.getfield 20, 3) := dk_180 0 20 (dk_at dksX0_reasonHere_1 1 rfl rfl)
theorem dX0_reasonHere_28 : decode cX0_reasonHere 28 = .ok (.iload_n 3, 1) := dk_29 (dk_at dksX0_reasonHere_1 4 rfl rfl)
theorem dX0_reasonHere_29 : decode cX0_reasonHere 29 = .ok (.iaload, 1) := dk_46 (dk_at dksX0_reasonHere_1 5 rfl rfl)
theorem dX0_reasonHere_30 : decode cX0_reasonHere 30 = .ok (.iload_n 1, 1) := dk_27 (dk_at dksX0_reasonHere_1 6 rfl rfl)
theorem dX0_reasonHere_31 : decode cX0_reasonHere 31 = .ok (.if_icmp .ne 6, 3) := dk_160 0 6 (dk_at dksX0_reasonHere_1 7 rfl rfl)
theorem dX0_reasonHere_34 : decode cX0_reasonHere 34 = .ok (.bipush 9, 2) := dk_16 9 (dk_at dksX0_reasonHere_1 10 rfl rfl)
theorem dX0_reasonHere_36 : decode cX0_reasonHere 36 = .ok (.ireturn, 1) := dk_172 (dk_at dksX0_reasonHere_1 12 rfl rfl)
theorem dX0_reasonHere_37 : decode cX0_reasonHere 37 = .ok (.iinc 3 1, 3) := dk_132 3 1 (dk_at dksX0_reasonHere_1 13 rfl rfl)
theorem dX0_reasonHere_40 : decode cX0_reasonHere 40 = .ok (.goto (-24), 3) := dk_167 255 232 (dk_at dksX0_reasonHere_1 16 rfl rfl)
theorem dX0_reasonHere_43 : decode cX0_reasonHere 43 = .ok (.iload_n 2, 1) := dk_28 (dk_at dksX0_reasonHere_1 19 rfl rfl)
theorem dX0_reasonHere_44 : decode cX0_reasonHere 44 = .ok (.ifCond .eq 14, 3) := dk_153 0 14 (dk_at dksX0_reasonHere_1 20 rfl rfl)
theorem dX0_reasonHere_47 : decode cX0_reasonHere 47 = .ok (.aload_n 0, 1) := dk_42 (dk_at dksX0_reasonHere_1 23 rfl rfl)
theorem dX0_reasonHere_48 : decode cX0_reasonHere 48 = .ok (.iload_n 1, 1) := dk_27 (dk_at dksX0_reasonHere_2 0 rfl rfl)
theorem dX0_reasonHere_49 : decode cX0_reasonHere 49 = .ok (.invokevirtual 174, 3) := dk_182 0 174 (dk_at dksX0_reasonHere_2 1 rfl rfl)
theorem dX0_reasonHere_52 : decode cX0_reasonHere 52 = .ok (.ifCond .lt 6, 3) := dk_155 0 6 (dk_at dksX0_reasonHere_2 4 rfl rfl)
theorem dX0_reasonHere_55 : decode cX0_reasonHere 55 = .ok (.bipush 8, 2) := dk_16 8 (dk_at dksX0_reasonHere_2 7 rfl rfl)
theorem dX0_reasonHere_57 : decode cX0_reasonHere 57 = .ok (.ireturn, 1) := dk_172 (dk_at dksX0_reasonHere_2 9 rfl rfl)
theorem dX0_reasonHere_58 : decode cX0_reasonHere 58 = .ok (.aload_n 0, 1) := dk_42 (dk_at dksX0_reasonHere_2 10 rfl rfl)
theorem dX0_reasonHere_59 : decode cX0_reasonHere 59 = .ok (.iload_n 1, 1) := dk_27 (dk_at dksX0_reasonHere_2 11 rfl rfl)
theorem dX0_reasonHere_60 : decode cX0_reasonHere 60 = .ok (.iload_n 2, 1) := dk_28 (dk_at dksX0_reasonHere_2 12 rfl rfl)
theorem dX0_reasonHere_61 : decode cX0_reasonHere 61 = .ok (.invokevirtual 263, 3) := dk_182 1 7 (dk_at dksX0_reasonHere_2 13 rfl rfl)
theorem dX0_reasonHere_64 : decode cX0_reasonHere 64 = .ok (.pop, 1) := dk_87 (dk_at dksX0_reasonHere_2 16 rfl rfl)
theorem dX0_reasonHere_65 : decode cX0_reasonHere 65 = .ok (.aload_n 0, 1) := dk_42 (dk_at dksX0_reasonHere_2 17 rfl rfl)
theorem dX0_reasonHere_66 : decode cX0_reasonHere 66 = .ok (.invokevirtual 266, 3) := dk_182 1 10 (dk_at dksX0_reasonHere_2 18 rfl rfl)
theorem dX0_reasonHere_69 : decode cX0_reasonHere 69 = .ok (.ifCond .eq 7, 3) := dk_153 0 7 (dk_at dksX0_reasonHere_2 21 rfl rfl)
theorem dX0_reasonHere_72 : decode cX0_reasonHere 72 = .ok (.iconst 0, 1) := dk_3 (dk_at dksX0_reasonHere_3 0 rfl rfl)
theorem dX0_reasonHere_73 : decode cX0_reasonHere 73 = .ok (.goto 7, 3) := dk_167 0 7 (dk_at dksX0_reasonHere_3 1 rfl rfl)
theorem dX0_reasonHere_76 : decode cX0_reasonHere 76 = .ok (.aload_n 0, 1) := dk_42 (dk_at dksX0_reasonHere_3 4 rfl rfl)
theorem dX0_reasonHere_77 : decode cX0_reasonHere 77 = .ok (.getfield 247, 3) := dk_180 0 247 (dk_at dksX0_reasonHere_3 5 rfl rfl)
theorem dX0_reasonHere_80 : decode cX0_reasonHere 80 = .ok (.ireturn, 1) := dk_172 (dk_at dksX0_reasonHere_3 8 rfl rfl)
abbrev cX0_insert : ByteArray := prog_1_method_28_code
def yX0_insert : MethodName := ⟨RX0, "insert", "(IZ)I"⟩
def dkwX0_insert_3 : List UInt8 := [180, 0, 27, 29, 28, 84, 42, 89, 180, 0, 202, 4, 96, 181, 0, 202, 29, 172]
abbrev dktX0_insert_3 : List UInt8 := dkwX0_insert_3 ++ []
def dkwX0_insert_2 : List UInt8 := [180, 0, 27, 29, 4, 100, 51, 84, 132, 3, 255, 167, 255, 205, 42, 180, 0, 20, 29, 27, 79, 42]
abbrev dktX0_insert_2 : List UInt8 := dkwX0_insert_2 ++ dktX0_insert_3
def dkwX0_insert_1 : List UInt8 := [153, 0, 37, 42, 180, 0, 20, 29, 42, 180, 0, 20, 29, 4, 100, 46, 79, 42, 180, 0, 27, 29, 42]
abbrev dktX0_insert_1 : List UInt8 := dkwX0_insert_1 ++ dktX0_insert_2
def dkwX0_insert_0 : List UInt8 := [42, 180, 0, 202, 62, 29, 158, 0, 53, 42, 27, 42, 180, 0, 20, 29, 4, 100, 46, 182, 0, 207]
abbrev dktX0_insert_0 : List UInt8 := dkwX0_insert_0 ++ dktX0_insert_1
theorem dksX0_insert_0 : cX0_insert.data.toList.drop 0 = dktX0_insert_0 := by decide +kernel
theorem dksX0_insert_1 : cX0_insert.data.toList.drop 22 = dktX0_insert_1 := dk_seg dksX0_insert_0 22 rfl rfl
theorem dksX0_insert_2 : cX0_insert.data.toList.drop 45 = dktX0_insert_2 := dk_seg dksX0_insert_1 23 rfl rfl
theorem dksX0_insert_3 : cX0_insert.data.toList.drop 67 = dktX0_insert_3 := dk_seg dksX0_insert_2 22 rfl rfl
theorem dX0_insert_0 : decode cX0_insert 0 = .ok (.aload_n 0, 1) := dk_42 (dk_at dksX0_insert_0 0 rfl rfl)
theorem dX0_insert_1 : decode cX0_insert 1 = .ok (.getfield 202, 3) := dk_180 0 202 (dk_at dksX0_insert_0 1 rfl rfl)
theorem dX0_insert_4 : decode cX0_insert 4 = .ok (.istore_n 3, 1) := dk_62 (dk_at dksX0_insert_0 4 rfl rfl)
theorem dX0_insert_5 : decode cX0_insert 5 = .ok (.iload_n 3, 1) := dk_29 (dk_at dksX0_insert_0 5 rfl rfl)
theorem dX0_insert_6 : decode cX0_insert 6 = .ok (.ifCond .le 53, 3) := dk_158 0 53 (dk_at dksX0_insert_0 6 rfl rfl)
theorem dX0_insert_9 : decode cX0_insert 9 = .ok (.aload_n 0, 1) := dk_42 (dk_at dksX0_insert_0 9 rfl rfl)
theorem dX0_insert_10 : decode cX0_insert 10 = .ok (.iload_n 1, 1) := dk_27 (dk_at dksX0_insert_0 10 rfl rfl)
theorem dX0_insert_11 : decode cX0_insert 11 = .ok (.aload_n 0, 1) := dk_42 (dk_at dksX0_insert_0 11 rfl rfl)
theorem dX0_insert_12 : decode cX0_insert 12 = .ok (.getfield 20, 3) := dk_180 0 20 (dk_at dksX0_insert_0 12 rfl rfl)
theorem dX0_insert_15 : decode cX0_insert 15 = .ok (.iload_n 3, 1) := dk_29 (dk_at dksX0_insert_0 15 rfl rfl)
theorem dX0_insert_16 : decode cX0_insert 16 = .ok (.iconst 1, 1) := dk_4 (dk_at dksX0_insert_0 16 rfl rfl)
theorem dX0_insert_17 : decode cX0_insert 17 = .ok (.isub, 1) := dk_100 (dk_at dksX0_insert_0 17 rfl rfl)
theorem dX0_insert_18 : decode cX0_insert 18 = .ok (.iaload, 1) := dk_46 (dk_at dksX0_insert_0 18 rfl rfl)
theorem dX0_insert_19 : decode cX0_insert 19 = .ok (.invokevirtual 207, 3) := dk_182 0 207 (dk_at dksX0_insert_0 19 rfl rfl)
theorem dX0_insert_22 : decode cX0_insert 22 = .ok (.ifCond .eq 37, 3) := dk_153 0 37 (dk_at dksX0_insert_1 0 rfl rfl)
theorem dX0_insert_25 : decode cX0_insert 25 = .ok (.aload_n 0, 1) := dk_42 (dk_at dksX0_insert_1 3 rfl rfl)
theorem dX0_insert_26 : decode cX0_insert 26 = .ok (.getfield 20, 3) := dk_180 0 20 (dk_at dksX0_insert_1 4 rfl rfl)
theorem dX0_insert_29 : decode cX0_insert 29 = .ok (.iload_n 3, 1) := dk_29 (dk_at dksX0_insert_1 7 rfl rfl)
theorem dX0_insert_30 : decode cX0_insert 30 = .ok (.aload_n 0, 1) := dk_42 (dk_at dksX0_insert_1 8 rfl rfl)
theorem dX0_insert_31 : decode cX0_insert 31 = .ok (.getfield 20, 3) := dk_180 0 20 (dk_at dksX0_insert_1 9 rfl rfl)
theorem dX0_insert_34 : decode cX0_insert 34 = .ok (.iload_n 3, 1) := dk_29 (dk_at dksX0_insert_1 12 rfl rfl)
theorem dX0_insert_35 : decode cX0_insert 35 = .ok (.iconst 1, 1) := dk_4 (dk_at dksX0_insert_1 13 rfl rfl)
theorem dX0_insert_36 : decode cX0_insert 36 = .ok (.isub, 1) := dk_100 (dk_at dksX0_insert_1 14 rfl rfl)
theorem dX0_insert_37 : decode cX0_insert 37 = .ok (.iaload, 1) := dk_46 (dk_at dksX0_insert_1 15 rfl rfl)
theorem dX0_insert_38 : decode cX0_insert 38 = .ok (.iastore, 1) := dk_79 (dk_at dksX0_insert_1 16 rfl rfl)
theorem dX0_insert_39 : decode cX0_insert 39 = .ok (.aload_n 0, 1) := dk_42 (dk_at dksX0_insert_1 17 rfl rfl)
theorem dX0_insert_40 : decode cX0_insert 40 = .ok (.getfield 27, 3) := dk_180 0 27 (dk_at dksX0_insert_1 18 rfl rfl)
theorem dX0_insert_43 : decode cX0_insert 43 = .ok (.iload_n 3, 1) := dk_29 (dk_at dksX0_insert_1 21 rfl rfl)
theorem dX0_insert_44 : decode cX0_insert 44 = .ok (.aload_n 0, 1) := dk_42 (dk_at dksX0_insert_1 22 rfl rfl)
theorem dX0_insert_45 : decode cX0_insert 45 = .ok (.getfield 27, 3) := dk_180 0 27 (dk_at dksX0_insert_2 0 rfl rfl)
theorem dX0_insert_48 : decode cX0_insert 48 = .ok (.iload_n 3, 1) := dk_29 (dk_at dksX0_insert_2 3 rfl rfl)
theorem dX0_insert_49 : decode cX0_insert 49 = .ok (.iconst 1, 1) := dk_4 (dk_at dksX0_insert_2 4 rfl rfl)
theorem dX0_insert_50 : decode cX0_insert 50 = .ok (.isub, 1) := dk_100 (dk_at dksX0_insert_2 5 rfl rfl)
theorem dX0_insert_51 : decode cX0_insert 51 = .ok (.baload, 1) := dk_51 (dk_at dksX0_insert_2 6 rfl rfl)
theorem dX0_insert_52 : decode cX0_insert 52 = .ok (.bastore, 1) := dk_84 (dk_at dksX0_insert_2 7 rfl rfl)
theorem dX0_insert_53 : decode cX0_insert 53 = .ok (.iinc 3 (-1), 3) := dk_132 3 255 (dk_at dksX0_insert_2 8 rfl rfl)
theorem dX0_insert_56 : decode cX0_insert 56 = .ok (.goto (-51), 3) := dk_167 255 205 (dk_at dksX0_insert_2 11 rfl rfl)
theorem dX0_insert_59 : decode cX0_insert 59 = .ok (.aload_n 0, 1) := dk_42 (dk_at dksX0_insert_2 14 rfl rfl)
theorem dX0_insert_60 : decode cX0_insert 60 = .ok (.getfield 20, 3) := dk_180 0 20 (dk_at dksX0_insert_2 15 rfl rfl)
theorem dX0_insert_63 : decode cX0_insert 63 = .ok (.iload_n 3, 1) := dk_29 (dk_at dksX0_insert_2 18 rfl rfl)
theorem dX0_insert_64 : decode cX0_insert 64 = .ok (.iload_n 1, 1) := dk_27 (dk_at dksX0_insert_2 19 rfl rfl)
theorem dX0_insert_65 : decode cX0_insert 65 = .ok (.iastore, 1) := dk_79 (dk_at dksX0_insert_2 20 rfl rfl)
theorem dX0_insert_66 : decode cX0_insert 66 = .ok (.aload_n 0, 1) := dk_42 (dk_at dksX0_insert_2 21 rfl rfl)
theorem dX0_insert_67 : decode cX0_insert 67 = .ok (.getfield 27, 3) := dk_180 0 27 (dk_at dksX0_insert_3 0 rfl rfl)
theorem dX0_insert_70 : decode cX0_insert 70 = .ok (.iload_n 3, 1) := dk_29 (dk_at dksX0_insert_3 3 rfl rfl)
theorem dX0_insert_71 : decode cX0_insert 71 = .ok (.iload_n 2, 1) := dk_28 (dk_at dksX0_insert_3 4 rfl rfl)
theorem dX0_insert_72 : decode cX0_insert 72 = .ok (.bastore, 1) := dk_84 (dk_at dksX0_insert_3 5 rfl rfl)
theorem dX0_insert_73 : decode cX0_insert 73 = .ok (.aload_n 0, 1) := dk_42 (dk_at dksX0_insert_3 6 rfl rfl)
theorem dX0_insert_74 : decode cX0_insert 74 = .ok (.dup, 1) := dk_89 (dk_at dksX0_insert_3 7 rfl rfl)
theorem dX0_insert_75 : decode cX0_insert 75 = .ok (.getfield 202, 3) := dk_180 0 202 (dk_at dksX0_insert_3 8 rfl rfl)
theorem dX0_insert_78 : decode cX0_insert 78 = .ok (.iconst 1, 1) := dk_4 (dk_at dksX0_insert_3 11 rfl rfl)
theorem dX0_insert_79 : decode cX0_insert 79 = .ok (.iadd, 1) := dk_96 (dk_at dksX0_insert_3 12 rfl rfl)
theorem dX0_insert_80 : decode cX0_insert 80 = .ok (.putfield 202, 3) := dk_181 0 202 (dk_at dksX0_insert_3 13 rfl rfl)
theorem dX0_insert_83 : decode cX0_insert 83 = .ok (.iload_n 3, 1) := dk_29 (dk_at dksX0_insert_3 16 rfl rfl)
theorem dX0_insert_84 : decode cX0_insert 84 = .ok (.ireturn, 1) := dk_172 (dk_at dksX0_insert_3 17 rfl rfl)
abbrev cX0_isBefore : ByteArray := prog_1_method_27_code
def yX0_isBefore : MethodName := ⟨RX0, "isBefore", "(II)Z"⟩
def dkwX0_isBefore_1 : List UInt8 := [154, 0, 12, 27, 28, 162, 0, 7, 4, 167, 0, 4, 3, 172]
abbrev dktX0_isBefore_1 : List UInt8 := dkwX0_isBefore_1 ++ []
def dkwX0_isBefore_0 : List UInt8 := [42, 27, 182, 0, 118, 180, 0, 130, 42, 28, 182, 0, 118, 180, 0, 130, 100, 62, 29, 155, 0, 12, 29]
abbrev dktX0_isBefore_0 : List UInt8 := dkwX0_isBefore_0 ++ dktX0_isBefore_1
theorem dksX0_isBefore_0 : cX0_isBefore.data.toList.drop 0 = dktX0_isBefore_0 := by decide +kernel
theorem dksX0_isBefore_1 : cX0_isBefore.data.toList.drop 23 = dktX0_isBefore_1 := dk_seg dksX0_isBefore_0 23 rfl rfl
theorem dX0_isBefore_0 : decode cX0_isBefore 0 = .ok (.aload_n 0, 1) := dk_42 (dk_at dksX0_isBefore_0 0 rfl rfl)
theorem dX0_isBefore_1 : decode cX0_isBefore 1 = .ok (.iload_n 1, 1) := dk_27 (dk_at dksX0_isBefore_0 1 rfl rfl)
theorem dX0_isBefore_2 : decode cX0_isBefore 2 = .ok (.invokevirtual 118, 3) := dk_182 0 118 (dk_at dksX0_isBefore_0 2 rfl rfl)
theorem dX0_isBefore_5 : decode cX0_isBefore 5 = .ok (.getfield 130, 3) := dk_180 0 130 (dk_at dksX0_isBefore_0 5 rfl rfl)
theorem dX0_isBefore_8 : decode cX0_isBefore 8 = .ok (.aload_n 0, 1) := dk_42 (dk_at dksX0_isBefore_0 8 rfl rfl)
theorem dX0_isBefore_9 : decode cX0_isBefore 9 = .ok (.iload_n 2, 1) := dk_28 (dk_at dksX0_isBefore_0 9 rfl rfl)
theorem dX0_isBefore_10 : decode cX0_isBefore 10 = .ok (.invokevirtual 118, 3) := dk_182 0 118 (dk_at dksX0_isBefore_0 10 rfl rfl)
theorem dX0_isBefore_13 : decode cX0_isBefore 13 = .ok (.getfield 130, 3) := dk_180 0 130 (dk_at dksX0_isBefore_0 13 rfl rfl)
theorem dX0_isBefore_16 : decode cX0_isBefore 16 = .ok (.isub, 1) := dk_100 (dk_at dksX0_isBefore_0 16 rfl rfl)
theorem dX0_isBefore_17 : decode cX0_isBefore 17 = .ok (.istore_n 3, 1) := dk_62 (dk_at dksX0_isBefore_0 17 rfl rfl)
theorem dX0_isBefore_18 : decode cX0_isBefore 18 = .ok (.iload_n 3, 1) := dk_29 (dk_at dksX0_isBefore_0 18 rfl rfl)
theorem dX0_isBefore_19 : decode cX0_isBefore 19 = .ok (.ifCond .lt 12, 3) := dk_155 0 12 (dk_at dksX0_isBefore_0 19 rfl rfl)
theorem dX0_isBefore_22 : decode cX0_isBefore 22 = .ok (.iload_n 3, 1) := dk_29 (dk_at dksX0_isBefore_0 22 rfl rfl)
theorem dX0_isBefore_23 : decode cX0_isBefore 23 = .ok (.ifCond .ne 12, 3) := dk_154 0 12 (dk_at dksX0_isBefore_1 0 rfl rfl)
theorem dX0_isBefore_26 : decode cX0_isBefore 26 = .ok (.iload_n 1, 1) := dk_27 (dk_at dksX0_isBefore_1 3 rfl rfl)
theorem dX0_isBefore_27 : decode cX0_isBefore 27 = .ok (.iload_n 2, 1) := dk_28 (dk_at dksX0_isBefore_1 4 rfl rfl)
theorem dX0_isBefore_28 : decode cX0_isBefore 28 = .ok (.if_icmp .ge 7, 3) := dk_162 0 7 (dk_at dksX0_isBefore_1 5 rfl rfl)
theorem dX0_isBefore_31 : decode cX0_isBefore 31 = .ok (.iconst 1, 1) := dk_4 (dk_at dksX0_isBefore_1 8 rfl rfl)
theorem dX0_isBefore_32 : decode cX0_isBefore 32 = .ok (.goto 4, 3) := dk_167 0 4 (dk_at dksX0_isBefore_1 9 rfl rfl)
theorem dX0_isBefore_35 : decode cX0_isBefore 35 = .ok (.iconst 0, 1) := dk_3 (dk_at dksX0_isBefore_1 12 rfl rfl)
theorem dX0_isBefore_36 : decode cX0_isBefore 36 = .ok (.ireturn, 1) := dk_172 (dk_at dksX0_isBefore_1 13 rfl rfl)
abbrev cX0_isLegal : ByteArray := prog_1_method_38_code
def yX0_isLegal : MethodName := ⟨RX0, "isLegal", "()Z"⟩
def dkwX0_isLegal_0 : List UInt8 := [42, 3, 182, 0, 253, 154, 0, 7, 4, 167, 0, 4, 3, 172]
abbrev dktX0_isLegal_0 : List UInt8 := dkwX0_isLegal_0 ++ []
theorem dksX0_isLegal_0 : cX0_isLegal.data.toList.drop 0 = dktX0_isLegal_0 := by decide +kernel
theorem dX0_isLegal_0 : decode cX0_isLegal 0 = .ok (.aload_n 0, 1) := dk_42 (dk_at dksX0_isLegal_0 0 rfl rfl)
theorem dX0_isLegal_1 : decode cX0_isLegal 1 = .ok (.iconst 0, 1) := dk_3 (dk_at dksX0_isLegal_0 1 rfl rfl)
theorem dX0_isLegal_2 : decode cX0_isLegal 2 = .ok (.invokevirtual 253, 3) := dk_182 0 253 (dk_at dksX0_isLegal_0 2 rfl rfl)
theorem dX0_isLegal_5 : decode cX0_isLegal 5 = .ok (.ifCond .ne 7, 3) := dk_154 0 7 (dk_at dksX0_isLegal_0 5 rfl rfl)
theorem dX0_isLegal_8 : decode cX0_isLegal 8 = .ok (.iconst 1, 1) := dk_4 (dk_at dksX0_isLegal_0 8 rfl rfl)
theorem dX0_isLegal_9 : decode cX0_isLegal 9 = .ok (.goto 4, 3) := dk_167 0 4 (dk_at dksX0_isLegal_0 9 rfl rfl)
theorem dX0_isLegal_12 : decode cX0_isLegal 12 = .ok (.iconst 0, 1) := dk_3 (dk_at dksX0_isLegal_0 12 rfl rfl)
theorem dX0_isLegal_13 : decode cX0_isLegal 13 = .ok (.ireturn, 1) := dk_172 (dk_at dksX0_isLegal_0 13 rfl rfl)
abbrev cX0_goTo : ByteArray := prog_1_method_37_code
def yX0_goTo : MethodName := ⟨RX0, "goTo", "(I)I"⟩
def dkwX0_goTo_3 : List UInt8 := [132, 3, 1, 167, 255, 193, 28, 172]
abbrev dktX0_goTo_3 : List UInt8 := dkwX0_goTo_3 ++ []
def dkwX0_goTo_2 : List UInt8 := [181, 0, 247, 42, 21, 4, 181, 0, 250, 28, 4, 96, 172, 132, 2, 1, 132, 4, 1, 167, 255, 208]
abbrev dktX0_goTo_2 : List UInt8 := dkwX0_goTo_2 ++ dktX0_goTo_3
def dkwX0_goTo_1 : List UInt8 := [162, 0, 45, 42, 29, 21, 4, 182, 0, 244, 154, 0, 6, 167, 0, 26, 28, 27, 160, 0, 18, 42, 29]
abbrev dktX0_goTo_1 : List UInt8 := dkwX0_goTo_1 ++ dktX0_goTo_2
def dkwX0_goTo_0 : List UInt8 := [42, 182, 0, 241, 3, 61, 4, 62, 29, 16, 7, 163, 0, 63, 3, 54, 4, 21, 4, 42, 180, 0, 202]
abbrev dktX0_goTo_0 : List UInt8 := dkwX0_goTo_0 ++ dktX0_goTo_1
theorem dksX0_goTo_0 : cX0_goTo.data.toList.drop 0 = dktX0_goTo_0 := by decide +kernel
theorem dksX0_goTo_1 : cX0_goTo.data.toList.drop 23 = dktX0_goTo_1 := dk_seg dksX0_goTo_0 23 rfl rfl
theorem dksX0_goTo_2 : cX0_goTo.data.toList.drop 46 = dktX0_goTo_2 := dk_seg dksX0_goTo_1 23 rfl rfl
theorem dksX0_goTo_3 : cX0_goTo.data.toList.drop 68 = dktX0_goTo_3 := dk_seg dksX0_goTo_2 22 rfl rfl
theorem dX0_goTo_0 : decode cX0_goTo 0 = .ok (.aload_n 0, 1) := dk_42 (dk_at dksX0_goTo_0 0 rfl rfl)
theorem dX0_goTo_1 : decode cX0_goTo 1 = .ok (.invokevirtual 241, 3) := dk_182 0 241 (dk_at dksX0_goTo_0 1 rfl rfl)
theorem dX0_goTo_4 : decode cX0_goTo 4 = .ok (.iconst 0, 1) := dk_3 (dk_at dksX0_goTo_0 4 rfl rfl)
theorem dX0_goTo_5 : decode cX0_goTo 5 = .ok (.istore_n 2, 1) := dk_61 (dk_at dksX0_goTo_0 5 rfl rfl)
theorem dX0_goTo_6 : decode cX0_goTo 6 = .ok (.iconst 1, 1) := dk_4 (dk_at dksX0_goTo_0 6 rfl rfl)
theorem dX0_goTo_7 : decode cX0_goTo 7 = .ok (.istore_n 3, 1) := dk_62 (dk_at dksX0_goTo_0 7 rfl rfl)
theorem dX0_goTo_8 : decode cX0_goTo 8 = .ok (.iload_n 3, 1) := dk_29 (dk_at dksX0_goTo_0 8 rfl rfl)
theorem dX0_goTo_9 : decode cX0_goTo 9 = .ok (.bipush 7, 2) := dk_16 7 (dk_at dksX0_goTo_0 9 rfl rfl)
theorem dX0_goTo_11 : decode cX0_goTo 11 = .ok (.if_icmp .gt 63, 3) := dk_163 0 63 (dk_at dksX0_goTo_0 11 rfl rfl)
theorem dX0_goTo_14 : decode cX0_goTo 14 = .ok (.iconst 0, 1) := dk_3 (dk_at dksX0_goTo_0 14 rfl rfl)
theorem dX0_goTo_15 : decode cX0_goTo 15 = .ok (.istore 4, 2) := dk_54 4 (dk_at dksX0_goTo_0 15 rfl rfl)
theorem dX0_goTo_17 : decode cX0_goTo 17 = .ok (.iload 4, 2) := dk_21 4 (dk_at dksX0_goTo_0 17 rfl rfl)
theorem dX0_goTo_19 : decode cX0_goTo 19 = .ok (.aload_n 0, 1) := dk_42 (dk_at dksX0_goTo_0 19 rfl rfl)
theorem dX0_goTo_20 : decode cX0_goTo 20 = .ok (.getfield 202, 3) := dk_180 0 202 (dk_at dksX0_goTo_0 20 rfl rfl)
theorem dX0_goTo_23 : decode cX0_goTo 23 = .ok (.if_icmp .ge 45, 3) := dk_162 0 45 (dk_at dksX0_goTo_1 0 rfl rfl)
theorem dX0_goTo_26 : decode cX0_goTo 26 = .ok (.aload_n 0, 1) := dk_42 (dk_at dksX0_goTo_1 3 rfl rfl)
theorem dX0_goTo_27 : decode cX0_goTo 27 = .ok (.iload_n 3, 1) := dk_29 (dk_at dksX0_goTo_1 4 rfl rfl)
theorem dX0_goTo_28 : decode cX0_goTo 28 = .ok (.iload 4, 2) := dk_21 4 (dk_at dksX0_goTo_1 5 rfl rfl)
theorem dX0_goTo_30 : decode cX0_goTo 30 = .ok (.invokevirtual 244, 3) := dk_182 0 244 (dk_at dksX0_goTo_1 7 rfl rfl)
theorem dX0_goTo_33 : decode cX0_goTo 33 = .ok (.ifCond .ne 6, 3) := dk_154 0 6 (dk_at dksX0_goTo_1 10 rfl rfl)
theorem dX0_goTo_36 : decode cX0_goTo 36 = .ok (.goto 26, 3) := dk_167 0 26 (dk_at dksX0_goTo_1 13 rfl rfl)
theorem dX0_goTo_39 : decode cX0_goTo 39 = .ok (.iload_n 2, 1) := dk_28 (dk_at dksX0_goTo_1 16 rfl rfl)
theorem dX0_goTo_40 : decode cX0_goTo 40 = .ok (.iload_n 1, 1) := dk_27 (dk_at dksX0_goTo_1 17 rfl rfl)
theorem dX0_goTo_41 : decode cX0_goTo 41 = .ok (.if_icmp .ne 18, 3) := dk_160 0 18 (dk_at dksX0_goTo_1 18 rfl rfl)
theorem dX0_goTo_44 : decode cX0_goTo 44 = .ok (.aload_n 0, 1) := dk_42 (dk_at dksX0_goTo_1 21 rfl rfl)
theorem dX0_goTo_45 : decode cX0_goTo 45 = .ok (.iload_n 3, 1) := dk_29 (dk_at dksX0_goTo_1 22 rfl rfl)
theorem dX0_goTo_46 : decode cX0_goTo 46 = .ok (.putfield 247, 3) := dk_181 0 247 (dk_at dksX0_goTo_2 0 rfl rfl)
theorem dX0_goTo_49 : decode cX0_goTo 49 = .ok (.aload_n 0, 1) := dk_42 (dk_at dksX0_goTo_2 3 rfl rfl)
theorem dX0_goTo_50 : decode cX0_goTo 50 = .ok (.iload 4, 2) := dk_21 4 (dk_at dksX0_goTo_2 4 rfl rfl)
theorem dX0_goTo_52 : decode cX0_goTo 52 = .ok (.putfield 250, 3) := dk_181 0 250 (dk_at dksX0_goTo_2 6 rfl rfl)
theorem dX0_goTo_55 : decode cX0_goTo 55 = .ok (.iload_n 2, 1) := dk_28 (dk_at dksX0_goTo_2 9 rfl rfl)
theorem dX0_goTo_56 : decode cX0_goTo 56 = .ok (.iconst 1, 1) := dk_4 (dk_at dksX0_goTo_2 10 rfl rfl)
theorem dX0_goTo_57 : decode cX0_goTo 57 = .ok (.iadd, 1) := dk_96 (dk_at dksX0_goTo_2 11 rfl rfl)
theorem dX0_goTo_58 : decode cX0_goTo 58 = .ok (.ireturn, 1) := dk_172 (dk_at dksX0_goTo_2 12 rfl rfl)
theorem dX0_goTo_59 : decode cX0_goTo 59 = .ok (.iinc 2 1, 3) := dk_132 2 1 (dk_at dksX0_goTo_2 13 rfl rfl)
theorem dX0_goTo_62 : decode cX0_goTo 62 = .ok (.iinc 4 1, 3) := dk_132 4 1 (dk_at dksX0_goTo_2 16 rfl rfl)
theorem dX0_goTo_65 : decode cX0_goTo 65 = .ok (.goto (-48), 3) := dk_167 255 208 (dk_at dksX0_goTo_2 19 rfl rfl)
theorem dX0_goTo_68 : decode cX0_goTo 68 = .ok (.iinc 3 1, 3) := dk_132 3 1 (dk_at dksX0_goTo_3 0 rfl rfl)
theorem dX0_goTo_71 : decode cX0_goTo 71 = .ok (.goto (-63), 3) := dk_167 255 193 (dk_at dksX0_goTo_3 3 rfl rfl)
theorem dX0_goTo_74 : decode cX0_goTo 74 = .ok (.iload_n 2, 1) := dk_28 (dk_at dksX0_goTo_3 6 rfl rfl)
theorem dX0_goTo_75 : decode cX0_goTo 75 = .ok (.ireturn, 1) := dk_172 (dk_at dksX0_goTo_3 7 rfl rfl)
abbrev cX0_findDuties : ByteArray := prog_1_method_30_code
def yX0_findDuties : MethodName := ⟨RX0, "findDuties", "()V"⟩
def dkwX0_findDuties_2 : List UInt8 := [180, 0, 214, 4, 96, 181, 0, 214, 132, 1, 1, 167, 255, 204, 177]
abbrev dktX0_findDuties_2 : List UInt8 := dkwX0_findDuties_2 ++ []
def dkwX0_findDuties_1 : List UInt8 := [42, 180, 0, 10, 180, 0, 190, 4, 46, 161, 0, 23, 42, 180, 0, 24, 42, 180, 0, 214, 27, 79, 42, 89]
abbrev dktX0_findDuties_1 : List UInt8 := dkwX0_findDuties_1 ++ dktX0_findDuties_2
def dkwX0_findDuties_0 : List UInt8 := [42, 3, 181, 0, 214, 3, 60, 27, 42, 180, 0, 202, 162, 0, 50, 27, 153, 0, 20, 42, 27, 182, 0, 217]
abbrev dktX0_findDuties_0 : List UInt8 := dkwX0_findDuties_0 ++ dktX0_findDuties_1
theorem dksX0_findDuties_0 : cX0_findDuties.data.toList.drop 0 = dktX0_findDuties_0 := by decide +kernel
theorem dksX0_findDuties_1 : cX0_findDuties.data.toList.drop 24 = dktX0_findDuties_1 := dk_seg dksX0_findDuties_0 24 rfl rfl
theorem dksX0_findDuties_2 : cX0_findDuties.data.toList.drop 48 = dktX0_findDuties_2 := dk_seg dksX0_findDuties_1 24 rfl rfl
theorem dX0_findDuties_0 : decode cX0_findDuties 0 = .ok (.aload_n 0, 1) := dk_42 (dk_at dksX0_findDuties_0 0 rfl rfl)
theorem dX0_findDuties_1 : decode cX0_findDuties 1 = .ok (.iconst 0, 1) := dk_3 (dk_at dksX0_findDuties_0 1 rfl rfl)
theorem dX0_findDuties_2 : decode cX0_findDuties 2 = .ok (.putfield 214, 3) := dk_181 0 214 (dk_at dksX0_findDuties_0 2 rfl rfl)
theorem dX0_findDuties_5 : decode cX0_findDuties 5 = .ok (.iconst 0, 1) := dk_3 (dk_at dksX0_findDuties_0 5 rfl rfl)
theorem dX0_findDuties_6 : decode cX0_findDuties 6 = .ok (.istore_n 1, 1) := dk_60 (dk_at dksX0_findDuties_0 6 rfl rfl)
theorem dX0_findDuties_7 : decode cX0_findDuties 7 = .ok (.iload_n 1, 1) := dk_27 (dk_at dksX0_findDuties_0 7 rfl rfl)
theorem dX0_findDuties_8 : decode cX0_findDuties 8 = .ok (.aload_n 0, 1) := dk_42 (dk_at dksX0_findDuties_0 8 rfl rfl)
theorem dX0_findDuties_9 : decode cX0_findDuties 9 = .ok (.getfield 202, 3) := dk_180 0 202 (dk_at dksX0_findDuties_0 9 rfl rfl)
theorem dX0_findDuties_12 : decode cX0_findDuties 12 = .ok (.if_icmp .ge 50, 3) := dk_162 0 50 (dk_at dksX0_findDuties_0 12 rfl rfl)
theorem dX0_findDuties_15 : decode cX0_findDuties 15 = .ok (.iload_n 1, 1) := dk_27 (dk_at dksX0_findDuties_0 15 rfl rfl)
theorem dX0_findDuties_16 : decode cX0_findDuties 16 = .ok (.ifCond .eq 20, 3) := dk_153 0 20 (dk_at dksX0_findDuties_0 16 rfl rfl)
theorem dX0_findDuties_19 : decode cX0_findDuties 19 = .ok (.aload_n 0, 1) := dk_42 (dk_at dksX0_findDuties_0 19 rfl rfl)
theorem dX0_findDuties_20 : decode cX0_findDuties 20 = .ok (.iload_n 1, 1) := dk_27 (dk_at dksX0_findDuties_0 20 rfl rfl)
theorem dX0_findDuties_21 : decode cX0_findDuties 21 = .ok (.invokevirtual 217, 3) := dk_182 0 217 (dk_at dksX0_findDuties_0 21 rfl rfl)
theorem dX0_findDuties_24 : decode cX0_findDuties 24 = .ok (.aload_n 0, 1) := dk_42 (dk_at dksX0_findDuties_1 0 rfl rfl)
theorem dX0_findDuties_25 : decode cX0_findDuties 25 = .ok (.getfield 10, 3) := dk_180 0 10 (dk_at dksX0_findDuties_1 1 rfl rfl)
theorem dX0_findDuties_28 : decode cX0_findDuties 28 = .ok (.getfield 190, 3) := dk_180 0 190 (dk_at dksX0_findDuties_1 4 rfl rfl)
theorem dX0_findDuties_31 : decode cX0_findDuties 31 = .ok (.iconst 1, 1) := dk_4 (dk_at dksX0_findDuties_1 7 rfl rfl)
theorem dX0_findDuties_32 : decode cX0_findDuties 32 = .ok (.iaload, 1) := dk_46 (dk_at dksX0_findDuties_1 8 rfl rfl)
theorem dX0_findDuties_33 : decode cX0_findDuties 33 = .ok (.if_icmp .lt 23, 3) := dk_161 0 23 (dk_at dksX0_findDuties_1 9 rfl rfl)
theorem dX0_findDuties_36 : decode cX0_findDuties 36 = .ok (.aload_n 0, 1) := dk_42 (dk_at dksX0_findDuties_1 12 rfl rfl)
theorem dX0_findDuties_37 : decode cX0_findDuties 37 = .ok (.getfield 24, 3) := dk_180 0 24 (dk_at dksX0_findDuties_1 13 rfl rfl)
theorem dX0_findDuties_40 : decode cX0_findDuties 40 = .ok (.aload_n 0, 1) := dk_42 (dk_at dksX0_findDuties_1 16 rfl rfl)
theorem dX0_findDuties_41 : decode cX0_findDuties 41 = .ok (.getfield 214, 3) := dk_180 0 214 (dk_at dksX0_findDuties_1 17 rfl rfl)
theorem dX0_findDuties_44 : decode cX0_findDuties 44 = .ok (.iload_n 1, 1) := dk_27 (dk_at dksX0_findDuties_1 20 rfl rfl)
theorem dX0_findDuties_45 : decode cX0_findDuties 45 = .ok (.iastore, 1) := dk_79 (dk_at dksX0_findDuties_1 21 rfl rfl)
theorem dX0_findDuties_46 : decode cX0_findDuties 46 = .ok (.aload_n 0, 1) := dk_42 (dk_at dksX0_findDuties_1 22 rfl rfl)
theorem dX0_findDuties_47 : decode cX0_findDuties 47 = .ok (.dup, 1) := dk_89 (dk_at dksX0_findDuties_1 23 rfl rfl)
theorem dX0_findDuties_48 : decode cX0_findDuties 48 = .ok (.getfield 214, 3) := dk_180 0 214 (dk_at dksX0_findDuties_2 0 rfl rfl)
theorem dX0_findDuties_51 : decode cX0_findDuties 51 = .ok (.iconst 1, 1) := dk_4 (dk_at dksX0_findDuties_2 3 rfl rfl)
theorem dX0_findDuties_52 : decode cX0_findDuties 52 = .ok (.iadd, 1) := dk_96 (dk_at dksX0_findDuties_2 4 rfl rfl)
theorem dX0_findDuties_53 : decode cX0_findDuties 53 = .ok (.putfield 214, 3) := dk_181 0 214 (dk_at dksX0_findDuties_2 5 rfl rfl)
theorem dX0_findDuties_56 : decode cX0_findDuties 56 = .ok (.iinc 1 1, 3) := dk_132 1 1 (dk_at dksX0_findDuties_2 8 rfl rfl)
theorem dX0_findDuties_59 : decode cX0_findDuties 59 = .ok (.goto (-52), 3) := dk_167 255 204 (dk_at dksX0_findDuties_2 11 rfl rfl)
theorem dX0_findDuties_62 : decode cX0_findDuties 62 = .ok (.return_, 1) := dk_177 (dk_at dksX0_findDuties_2 14 rfl rfl)
abbrev cX0_gapBefore : ByteArray := prog_1_method_29_code
def yX0_gapBefore : MethodName := ⟨RX0, "gapBefore", "(I)I"⟩
def dkwX0_gapBefore_0 : List UInt8 := [42, 27, 182, 0, 211, 180, 0, 130, 42, 27, 4, 100, 182, 0, 211, 180, 0, 181, 100, 172]
abbrev dktX0_gapBefore_0 : List UInt8 := dkwX0_gapBefore_0 ++ []
theorem dksX0_gapBefore_0 : cX0_gapBefore.data.toList.drop 0 = dktX0_gapBefore_0 := by decide +kernel
theorem dX0_gapBefore_0 : decode cX0_gapBefore 0 = .ok (.aload_n 0, 1) := dk_42 (dk_at dksX0_gapBefore_0 0 rfl rfl)
theorem dX0_gapBefore_1 : decode cX0_gapBefore 1 = .ok (.iload_n 1, 1) := dk_27 (dk_at dksX0_gapBefore_0 1 rfl rfl)
theorem dX0_gapBefore_2 : decode cX0_gapBefore 2 = .ok (.invokevirtual 211, 3) := dk_182 0 211 (dk_at dksX0_gapBefore_0 2 rfl rfl)
theorem dX0_gapBefore_5 : decode cX0_gapBefore 5 = .ok (.getfield 130, 3) := dk_180 0 130 (dk_at dksX0_gapBefore_0 5 rfl rfl)
theorem dX0_gapBefore_8 : decode cX0_gapBefore 8 = .ok (.aload_n 0, 1) := dk_42 (dk_at dksX0_gapBefore_0 8 rfl rfl)
theorem dX0_gapBefore_9 : decode cX0_gapBefore 9 = .ok (.iload_n 1, 1) := dk_27 (dk_at dksX0_gapBefore_0 9 rfl rfl)
theorem dX0_gapBefore_10 : decode cX0_gapBefore 10 = .ok (.iconst 1, 1) := dk_4 (dk_at dksX0_gapBefore_0 10 rfl rfl)
theorem dX0_gapBefore_11 : decode cX0_gapBefore 11 = .ok (.isub, 1) := dk_100 (dk_at dksX0_gapBefore_0 11 rfl rfl)
theorem dX0_gapBefore_12 : decode cX0_gapBefore 12 = .ok (.invokevirtual 211, 3) := dk_182 0 211 (dk_at dksX0_gapBefore_0 12 rfl rfl)
theorem dX0_gapBefore_15 : decode cX0_gapBefore 15 = .ok (.getfield 181, 3) := dk_180 0 181 (dk_at dksX0_gapBefore_0 15 rfl rfl)
theorem dX0_gapBefore_18 : decode cX0_gapBefore 18 = .ok (.isub, 1) := dk_100 (dk_at dksX0_gapBefore_0 18 rfl rfl)
theorem dX0_gapBefore_19 : decode cX0_gapBefore 19 = .ok (.ireturn, 1) := dk_172 (dk_at dksX0_gapBefore_0 19 rfl rfl)
abbrev cX0_at : ByteArray := prog_1_method_26_code
def yX0_at : MethodName := ⟨RX0, "at", "(I)LCrewPairer$Leg;"⟩
def dkwX0_at_0 : List UInt8 := [42, 42, 180, 0, 20, 27, 46, 182, 0, 118, 176]
abbrev dktX0_at_0 : List UInt8 := dkwX0_at_0 ++ []
theorem dksX0_at_0 : cX0_at.data.toList.drop 0 = dktX0_at_0 := by decide +kernel
theorem dX0_at_0 : decode cX0_at 0 = .ok (.aload_n 0, 1) := dk_42 (dk_at dksX0_at_0 0 rfl rfl)
theorem dX0_at_1 : decode cX0_at 1 = .ok (.aload_n 0, 1) := dk_42 (dk_at dksX0_at_0 1 rfl rfl)
theorem dX0_at_2 : decode cX0_at 2 = .ok (.getfield 20, 3) := dk_180 0 20 (dk_at dksX0_at_0 2 rfl rfl)
theorem dX0_at_5 : decode cX0_at 5 = .ok (.iload_n 1, 1) := dk_27 (dk_at dksX0_at_0 5 rfl rfl)
theorem dX0_at_6 : decode cX0_at 6 = .ok (.iaload, 1) := dk_46 (dk_at dksX0_at_0 6 rfl rfl)
theorem dX0_at_7 : decode cX0_at 7 = .ok (.invokevirtual 118, 3) := dk_182 0 118 (dk_at dksX0_at_0 7 rfl rfl)
theorem dX0_at_10 : decode cX0_at 10 = .ok (.areturn, 1) := dk_176 (dk_at dksX0_at_0 10 rfl rfl)
abbrev cX0_violates : ByteArray := prog_1_method_36_code
def yX0_violates : MethodName := ⟨RX0, "violates", "(II)Z"⟩
def dkwX0_violates_11 : List UInt8 := [180, 0, 190, 8, 46, 164, 0, 7, 4, 167, 0, 4, 3, 172]
abbrev dktX0_violates_11 : List UInt8 := dkwX0_violates_11 ++ []
def dkwX0_violates_10 : List UInt8 := [28, 51, 153, 0, 34, 42, 42, 28, 182, 0, 211, 180, 0, 130, 17, 5, 160, 182, 0, 238, 42, 180, 0, 10]
abbrev dktX0_violates_10 : List UInt8 := dkwX0_violates_10 ++ dktX0_violates_11
def dkwX0_violates_9 : List UInt8 := [42, 180, 0, 10, 180, 0, 190, 7, 46, 164, 0, 7, 4, 167, 0, 48, 3, 167, 0, 44, 42, 180, 0, 27]
abbrev dktX0_violates_9 : List UInt8 := dkwX0_violates_9 ++ dktX0_violates_10
def dkwX0_violates_8 : List UInt8 := [6, 46, 164, 0, 7, 4, 167, 0, 79, 3, 167, 0, 75, 29, 155, 0, 26, 42, 29, 182, 0, 220, 28, 100]
abbrev dktX0_violates_8 : List UInt8 := dkwX0_violates_8 ++ dktX0_violates_9
def dkwX0_violates_7 : List UInt8 := [4, 167, 0, 108, 3, 167, 0, 104, 29, 155, 0, 24, 42, 29, 182, 0, 235, 42, 180, 0, 10, 180, 0, 190]
abbrev dktX0_violates_7 : List UInt8 := dkwX0_violates_7 ++ dktX0_violates_8
def dkwX0_violates_6 : List UInt8 := [167, 0, 133, 29, 155, 0, 24, 42, 29, 182, 0, 232, 42, 180, 0, 10, 180, 0, 190, 5, 46, 164, 0, 7]
abbrev dktX0_violates_6 : List UInt8 := dkwX0_violates_6 ++ dktX0_violates_7
def dkwX0_violates_5 : List UInt8 := [42, 180, 0, 10, 180, 0, 190, 3, 46, 4, 100, 184, 0, 72, 153, 0, 7, 4, 167, 0, 137, 3]
abbrev dktX0_violates_5 : List UInt8 := dkwX0_violates_5 ++ dktX0_violates_6
def dkwX0_violates_4 : List UInt8 := [180, 0, 127, 159, 0, 7, 4, 167, 0, 172, 3, 167, 0, 168, 28, 158, 0, 30, 42, 28, 182, 0, 217, 3]
abbrev dktX0_violates_4 : List UInt8 := dkwX0_violates_4 ++ dktX0_violates_5
def dkwX0_violates_3 : List UInt8 := [182, 0, 211, 180, 0, 124, 28, 154, 0, 10, 42, 180, 0, 196, 167, 0, 13, 42, 28, 4, 100, 182, 0, 211]
abbrev dktX0_violates_3 : List UInt8 := dkwX0_violates_3 ++ dktX0_violates_4
def dkwX0_violates_2 : List UInt8 := [28, 158, 0, 15, 42, 28, 182, 0, 217, 156, 0, 7, 4, 167, 0, 212, 3, 167, 0, 208, 42, 28]
abbrev dktX0_violates_2 : List UInt8 := dkwX0_violates_2 ++ dktX0_violates_3
def dkwX0_violates_1 : List UInt8 := [170, 0, 0, 0, 0, 0, 0, 224, 0, 0, 0, 1, 0, 0, 0, 6, 0, 0, 0, 40, 0, 0, 0, 60, 0, 0, 0, 100, 0, 0, 0, 135, 0, 0, 0, 164, 0, 0, 0, 193]
abbrev dktX0_violates_1 : List UInt8 := dkwX0_violates_1 ++ dktX0_violates_2
def dkwX0_violates_0 : List UInt8 := [27, 6, 164, 0, 11, 42, 28, 182, 0, 229, 167, 0, 4, 2, 62, 27]
abbrev dktX0_violates_0 : List UInt8 := dkwX0_violates_0 ++ dktX0_violates_1
theorem dksX0_violates_0 : cX0_violates.data.toList.drop 0 = dktX0_violates_0 := by decide +kernel
theorem dksX0_violates_1 : cX0_violates.data.toList.drop 16 = dktX0_violates_1 := dk_seg dksX0_violates_0 16 rfl rfl
theorem dksX0_violates_2 : cX0_violates.data.toList.drop 56 = dktX0_violates_2 := dk_seg dksX0_violates_1 40 rfl rfl
theorem dksX0_violates_3 : cX0_violates.data.toList.drop 78 = dktX0_violates_3 := dk_seg dksX0_violates_2 22 rfl rfl
theorem dksX0_violates_4 : cX0_violates.data.toList.drop 102 = dktX0_violates_4 := dk_seg dksX0_violates_3 24 rfl rfl
theorem dksX0_violates_5 : cX0_violates.data.toList.drop 126 = dktX0_violates_5 := dk_seg dksX0_violates_4 24 rfl rfl
theorem dksX0_violates_6 : cX0_violates.data.toList.drop 148 = dktX0_violates_6 := dk_seg dksX0_violates_5 22 rfl rfl
theorem dksX0_violates_7 : cX0_violates.data.toList.drop 172 = dktX0_violates_7 := dk_seg dksX0_violates_6 24 rfl rfl
theorem dksX0_violates_8 : cX0_violates.data.toList.drop 196 = dktX0_violates_8 := dk_seg dksX0_violates_7 24 rfl rfl
theorem dksX0_violates_9 : cX0_violates.data.toList.drop 220 = dktX0_violates_9 := dk_seg dksX0_violates_8 24 rfl rfl
theorem dksX0_violates_10 : cX0_violates.data.toList.drop 244 = dktX0_violates_10 := dk_seg dksX0_violates_9 24 rfl rfl
theorem dksX0_violates_11 : cX0_violates.data.toList.drop 268 = dktX0_violates_11 := dk_seg dksX0_violates_10 24 rfl rfl
theorem dX0_violates_0 : decode cX0_violates 0 = .ok (.iload_n 1, 1) := dk_27 (dk_at dksX0_violates_0 0 rfl rfl)
theorem dX0_violates_1 : decode cX0_violates 1 = .ok (.iconst 3, 1) := dk_6 (dk_at dksX0_violates_0 1 rfl rfl)
theorem dX0_violates_2 : decode cX0_violates 2 = .ok (.if_icmp .le 11, 3) := dk_164 0 11 (dk_at dksX0_violates_0 2 rfl rfl)
theorem dX0_violates_5 : decode cX0_violates 5 = .ok (.aload_n 0, 1) := dk_42 (dk_at dksX0_violates_0 5 rfl rfl)
theorem dX0_violates_6 : decode cX0_violates 6 = .ok (.iload_n 2, 1) := dk_28 (dk_at dksX0_violates_0 6 rfl rfl)
theorem dX0_violates_7 : decode cX0_violates 7 = .ok (.invokevirtual 229, 3) := dk_182 0 229 (dk_at dksX0_violates_0 7 rfl rfl)
theorem dX0_violates_10 : decode cX0_violates 10 = .ok (.goto 4, 3) := dk_167 0 4 (dk_at dksX0_violates_0 10 rfl rfl)
theorem dX0_violates_13 : decode cX0_violates 13 = .ok (.iconst (-1), 1) := dk_2 (dk_at dksX0_violates_0 13 rfl rfl)
theorem dX0_violates_14 : decode cX0_violates 14 = .ok (.istore_n 3, 1) := dk_62 (dk_at dksX0_violates_0 14 rfl rfl)
theorem dX0_violates_15 : decode cX0_violates 15 = .ok (.iload_n 1, 1) := dk_27 (dk_at dksX0_violates_0 15 rfl rfl)
theorem dX0_violates_16 : decode cX0_violates 16 = .ok (.tableswitch 224 1 6 #[40, 60, 100, 135, 164, 193], 40) := by decide +kernel
theorem dX0_violates_56 : decode cX0_violates 56 = .ok (.iload_n 2, 1) := dk_28 (dk_at dksX0_violates_2 0 rfl rfl)
theorem dX0_violates_57 : decode cX0_violates 57 = .ok (.ifCond .le 15, 3) := dk_158 0 15 (dk_at dksX0_violates_2 1 rfl rfl)
theorem dX0_violates_60 : decode cX0_violates 60 = .ok (.aload_n 0, 1) := dk_42 (dk_at dksX0_violates_2 4 rfl rfl)
theorem dX0_violates_61 : decode cX0_violates 61 = .ok (.iload_n 2, 1) := dk_28 (dk_at dksX0_violates_2 5 rfl rfl)
theorem dX0_violates_62 : decode cX0_violates 62 = .ok (.invokevirtual 217, 3) := dk_182 0 217 (dk_at dksX0_violates_2 6 rfl rfl)
theorem dX0_violates_65 : decode cX0_violates 65 = .ok (.ifCond .ge 7, 3) := dk_156 0 7 (dk_at dksX0_violates_2 9 rfl rfl)
theorem dX0_violates_68 : decode cX0_violates 68 = .ok (.iconst 1, 1) := dk_4 (dk_at dksX0_violates_2 12 rfl rfl)
theorem dX0_violates_69 : decode cX0_violates 69 = .ok (.goto 212, 3) := dk_167 0 212 (dk_at dksX0_violates_2 13 rfl rfl)
theorem dX0_violates_72 : decode cX0_violates 72 = .ok (.iconst 0, 1) := dk_3 (dk_at dksX0_violates_2 16 rfl rfl)
theorem dX0_violates_73 : decode cX0_violates 73 = .ok (.goto 208, 3) := dk_167 0 208 (dk_at dksX0_violates_2 17 rfl rfl)
theorem dX0_violates_76 : decode cX0_violates 76 = .ok (.aload_n 0, 1) := dk_42 (dk_at dksX0_violates_2 20 rfl rfl)
theorem dX0_violates_77 : decode cX0_violates 77 = .ok (.iload_n 2, 1) := dk_28 (dk_at dksX0_violates_2 21 rfl rfl)
theorem dX0_violates_78 : decode cX0_violates 78 = .ok (.invokevirtual 211, 3) := dk_182 0 211 (dk_at dksX0_violates_3 0 rfl rfl)
theorem dX0_violates_81 : decode cX0_violates 81 = .ok (.getfield 124, 3) := dk_180 0 124 (dk_at dksX0_violates_3 3 rfl rfl)
theorem dX0_violates_84 : decode cX0_violates 84 = .ok (.iload_n 2, 1) := dk_28 (dk_at dksX0_violates_3 6 rfl rfl)
theorem dX0_violates_85 : decode cX0_violates 85 = .ok (.ifCond .ne 10, 3) := dk_154 0 10 (dk_at dksX0_violates_3 7 rfl rfl)
theorem dX0_violates_88 : decode cX0_violates 88 = .ok (.aload_n 0, 1) := dk_42 (dk_at dksX0_violates_3 10 rfl rfl)
theorem dX0_violates_89 : decode cX0_violates 89 = .ok (.getfield 196, 3) := dk_180 0 196 (dk_at dksX0_violates_3 11 rfl rfl)
theorem dX0_violates_92 : decode cX0_violates 92 = .ok (.goto 13, 3) := dk_167 0 13 (dk_at dksX0_violates_3 14 rfl rfl)
theorem dX0_violates_95 : decode cX0_violates 95 = .ok (.aload_n 0, 1) := dk_42 (dk_at dksX0_violates_3 17 rfl rfl)
theorem dX0_violates_96 : decode cX0_violates 96 = .ok (.iload_n 2, 1) := dk_28 (dk_at dksX0_violates_3 18 rfl rfl)
theorem dX0_violates_97 : decode cX0_violates 97 = .ok (.iconst 1, 1) := dk_4 (dk_at dksX0_violates_3 19 rfl rfl)
theorem dX0_violates_98 : decode cX0_violates 98 = .ok (.isub, 1) := dk_100 (dk_at dksX0_violates_3 20 rfl rfl)
theorem dX0_violates_99 : decode cX0_violates 99 = .ok (.invokevirtual 211, 3) := dk_182 0 211 (dk_at dksX0_violates_3 21 rfl rfl)
theorem dX0_violates_102 : decode cX0_violates 102 = .ok (.getfield 127, 3) := dk_180 0 127 (dk_at dksX0_violates_4 0 rfl rfl)
theorem dX0_violates_105 : decode cX0_violates 105 = .ok (.if_icmp .eq 7, 3) := dk_159 0 7 (dk_at dksX0_violates_4 3 rfl rfl)
theorem dX0_violates_108 : decode cX0_violates 108 = .ok (.iconst 1, 1) := dk_4 (dk_at dksX0_violates_4 6 rfl rfl)
theorem dX0_violates_109 : decode cX0_violates 109 = .ok (.goto 172, 3) := dk_167 0 172 (dk_at dksX0_violates_4 7 rfl rfl)
theorem dX0_violates_112 : decode cX0_violates 112 = .ok (.iconst 0, 1) := dk_3 (dk_at dksX0_violates_4 10 rfl rfl)
theorem dX0_violates_113 : decode cX0_violates 113 = .ok (.goto 168, 3) := dk_167 0 168 (dk_at dksX0_violates_4 11 rfl rfl)
theorem dX0_violates_116 : decode cX0_violates 116 = .ok (.iload_n 2, 1) := dk_28 (dk_at dksX0_violates_4 14 rfl rfl)
theorem dX0_violates_117 : decode cX0_violates 117 = .ok (.ifCond .le 30, 3) := dk_158 0 30 (dk_at dksX0_violates_4 15 rfl rfl)
theorem dX0_violates_120 : decode cX0_violates 120 = .ok (.aload_n 0, 1) := dk_42 (dk_at dksX0_violates_4 18 rfl rfl)
theorem dX0_violates_121 : decode cX0_violates 121 = .ok (.iload_n 2, 1) := dk_28 (dk_at dksX0_violates_4 19 rfl rfl)
theorem dX0_violates_122 : decode cX0_violates 122 = .ok (.invokevirtual 217, 3) := dk_182 0 217 (dk_at dksX0_violates_4 20 rfl rfl)
theorem dX0_violates_125 : decode cX0_violates 125 = .ok (.iconst 0, 1) := dk_3 (dk_at dksX0_violates_4 23 rfl rfl)
theorem dX0_violates_126 : decode cX0_violates 126 = .ok (.aload_n 0, 1) := dk_42 (dk_at dksX0_violates_5 0 rfl rfl)
theorem dX0_violates_127 : decode cX0_violates 127 = .ok (.getfield 10, 3) := dk_180 0 10 (dk_at dksX0_violates_5 1 rfl rfl)
theorem dX0_violates_130 : decode cX0_violates 130 = .ok (.getfield 190, 3) := dk_180 0 190 (dk_at dksX0_violates_5 4 rfl rfl)
theorem dX0_violates_133 : decode cX0_violates 133 = .ok (.iconst 0, 1) := dk_3 (dk_at dksX0_violates_5 7 rfl rfl)
theorem dX0_violates_134 : decode cX0_violates 134 = .ok (.iaload, 1) := dk_46 (dk_at dksX0_violates_5 8 rfl rfl)
theorem dX0_violates_135 : decode cX0_violates 135 = .ok (.iconst 1, 1) := dk_4 (dk_at dksX0_violates_5 9 rfl rfl)
theorem dX0_violates_136 : decode cX0_violates 136 = .ok (.isub, 1) := dk_100 (dk_at dksX0_violates_5 10 rfl rfl)
theorem dX0_violates_137 : decode cX0_violates 137 = .ok (.invokestatic 72, 3) := dk_184 0 72 (dk_at dksX0_violates_5 11 rfl rfl)
theorem dX0_violates_140 : decode cX0_violates 140 = .ok (.ifCond .eq 7, 3) := dk_153 0 7 (dk_at dksX0_violates_5 14 rfl rfl)
theorem dX0_violates_143 : decode cX0_violates 143 = .ok (.iconst 1, 1) := dk_4 (dk_at dksX0_violates_5 17 rfl rfl)
theorem dX0_violates_144 : decode cX0_violates 144 = .ok (.goto 137, 3) := dk_167 0 137 (dk_at dksX0_violates_5 18 rfl rfl)
theorem dX0_violates_147 : decode cX0_violates 147 = .ok (.iconst 0, 1) := dk_3 (dk_at dksX0_violates_5 21 rfl rfl)
theorem dX0_violates_148 : decode cX0_violates 148 = .ok (.goto 133, 3) := dk_167 0 133 (dk_at dksX0_violates_6 0 rfl rfl)
theorem dX0_violates_151 : decode cX0_violates 151 = .ok (.iload_n 3, 1) := dk_29 (dk_at dksX0_violates_6 3 rfl rfl)
theorem dX0_violates_152 : decode cX0_violates 152 = .ok (.ifCond .lt 24, 3) := dk_155 0 24 (dk_at dksX0_violates_6 4 rfl rfl)
theorem dX0_violates_155 : decode cX0_violates 155 = .ok (.aload_n 0, 1) := dk_42 (dk_at dksX0_violates_6 7 rfl rfl)
theorem dX0_violates_156 : decode cX0_violates 156 = .ok (.iload_n 3, 1) := dk_29 (dk_at dksX0_violates_6 8 rfl rfl)
theorem dX0_violates_157 : decode cX0_violates 157 = .ok (.invokevirtual 232, 3) := dk_182 0 232 (dk_at dksX0_violates_6 9 rfl rfl)
theorem dX0_violates_160 : decode cX0_violates 160 = .ok (.aload_n 0, 1) := dk_42 (dk_at dksX0_violates_6 12 rfl rfl)
theorem dX0_violates_161 : decode cX0_violates 161 = .ok (.getfield 10, 3) := dk_180 0 10 (dk_at dksX0_violates_6 13 rfl rfl)
theorem dX0_violates_164 : decode cX0_violates 164 = .ok (.getfield 190, 3) := dk_180 0 190 (dk_at dksX0_violates_6 16 rfl rfl)
theorem dX0_violates_167 : decode cX0_violates 167 = .ok (.iconst 2, 1) := dk_5 (dk_at dksX0_violates_6 19 rfl rfl)
theorem dX0_violates_168 : decode cX0_violates 168 = .ok (.iaload, 1) := dk_46 (dk_at dksX0_violates_6 20 rfl rfl)
theorem dX0_violates_169 : decode cX0_violates 169 = .ok (.if_icmp .le 7, 3) := dk_164 0 7 (dk_at dksX0_violates_6 21 rfl rfl)
theorem dX0_violates_172 : decode cX0_violates 172 = .ok (.iconst 1, 1) := dk_4 (dk_at dksX0_violates_7 0 rfl rfl)
theorem dX0_violates_173 : decode cX0_violates 173 = .ok (.goto 108, 3) := dk_167 0 108 (dk_at dksX0_violates_7 1 rfl rfl)
theorem dX0_violates_176 : decode cX0_violates 176 = .ok (.iconst 0, 1) := dk_3 (dk_at dksX0_violates_7 4 rfl rfl)
theorem dX0_violates_177 : decode cX0_violates 177 = .ok (.goto 104, 3) := dk_167 0 104 (dk_at dksX0_violates_7 5 rfl rfl)
theorem dX0_violates_180 : decode cX0_violates 180 = .ok (.iload_n 3, 1) := dk_29 (dk_at dksX0_violates_7 8 rfl rfl)
theorem dX0_violates_181 : decode cX0_violates 181 = .ok (.ifCond .lt 24, 3) := dk_155 0 24 (dk_at dksX0_violates_7 9 rfl rfl)
theorem dX0_violates_184 : decode cX0_violates 184 = .ok (.aload_n 0, 1) := dk_42 (dk_at dksX0_violates_7 12 rfl rfl)
theorem dX0_violates_185 : decode cX0_violates 185 = .ok (.iload_n 3, 1) := dk_29 (dk_at dksX0_violates_7 13 rfl rfl)
theorem dX0_violates_186 : decode cX0_violates 186 = .ok (.invokevirtual 235, 3) := dk_182 0 235 (dk_at dksX0_violates_7 14 rfl rfl)
theorem dX0_violates_189 : decode cX0_violates 189 = .ok (.aload_n 0, 1) := dk_42 (dk_at dksX0_violates_7 17 rfl rfl)
theorem dX0_violates_190 : decode cX0_violates 190 = .ok (.getfield 10, 3) := dk_180 0 10 (dk_at dksX0_violates_7 18 rfl rfl)
theorem dX0_violates_193 : decode cX0_violates 193 = .ok (.getfield 190, 3) := dk_180 0 190 (dk_at dksX0_violates_7 21 rfl rfl)
theorem dX0_violates_196 : decode cX0_violates 196 = .ok (.iconst 3, 1) := dk_6 (dk_at dksX0_violates_8 0 rfl rfl)
theorem dX0_violates_197 : decode cX0_violates 197 = .ok (.iaload, 1) := dk_46 (dk_at dksX0_violates_8 1 rfl rfl)
theorem dX0_violates_198 : decode cX0_violates 198 = .ok (.if_icmp .le 7, 3) := dk_164 0 7 (dk_at dksX0_violates_8 2 rfl rfl)
theorem dX0_violates_201 : decode cX0_violates 201 = .ok (.iconst 1, 1) := dk_4 (dk_at dksX0_violates_8 5 rfl rfl)
theorem dX0_violates_202 : decode cX0_violates 202 = .ok (.goto 79, 3) := dk_167 0 79 (dk_at dksX0_violates_8 6 rfl rfl)
theorem dX0_violates_205 : decode cX0_violates 205 = .ok (.iconst 0, 1) := dk_3 (dk_at dksX0_violates_8 9 rfl rfl)
theorem dX0_violates_206 : decode cX0_violates 206 = .ok (.goto 75, 3) := dk_167 0 75 (dk_at dksX0_violates_8 10 rfl rfl)
theorem dX0_violates_209 : decode cX0_violates 209 = .ok (.iload_n 3, 1) := dk_29 (dk_at dksX0_violates_8 13 rfl rfl)
theorem dX0_violates_210 : decode cX0_violates 210 = .ok (.ifCond .lt 26, 3) := dk_155 0 26 (dk_at dksX0_violates_8 14 rfl rfl)
theorem dX0_violates_213 : decode cX0_violates 213 = .ok (.aload_n 0, 1) := dk_42 (dk_at dksX0_violates_8 17 rfl rfl)
theorem dX0_violates_214 : decode cX0_violates 214 = .ok (.iload_n 3, 1) := dk_29 (dk_at dksX0_violates_8 18 rfl rfl)
theorem dX0_violates_215 : decode cX0_violates 215 = .ok (.invokevirtual 220, 3) := dk_182 0 220 (dk_at dksX0_violates_8 19 rfl rfl)
theorem dX0_violates_218 : decode cX0_violates 218 = .ok (.iload_n 2, 1) := dk_28 (dk_at dksX0_violates_8 22 rfl rfl)
theorem dX0_violates_219 : decode cX0_violates 219 = .ok (.isub, 1) := dk_100 (dk_at dksX0_violates_8 23 rfl rfl)
theorem dX0_violates_220 : decode cX0_violates 220 = .ok (.aload_n 0, 1) := dk_42 (dk_at dksX0_violates_9 0 rfl rfl)
theorem dX0_violates_221 : decode cX0_violates 221 = .ok (.getfield 10, 3) := dk_180 0 10 (dk_at dksX0_violates_9 1 rfl rfl)
theorem dX0_violates_224 : decode cX0_violates 224 = .ok (.getfield 190, 3) := dk_180 0 190 (dk_at dksX0_violates_9 4 rfl rfl)
theorem dX0_violates_227 : decode cX0_violates 227 = .ok (.iconst 4, 1) := dk_7 (dk_at dksX0_violates_9 7 rfl rfl)
theorem dX0_violates_228 : decode cX0_violates 228 = .ok (.iaload, 1) := dk_46 (dk_at dksX0_violates_9 8 rfl rfl)
theorem dX0_violates_229 : decode cX0_violates 229 = .ok (.if_icmp .le 7, 3) := dk_164 0 7 (dk_at dksX0_violates_9 9 rfl rfl)
theorem dX0_violates_232 : decode cX0_violates 232 = .ok (.iconst 1, 1) := dk_4 (dk_at dksX0_violates_9 12 rfl rfl)
theorem dX0_violates_233 : decode cX0_violates 233 = .ok (.goto 48, 3) := dk_167 0 48 (dk_at dksX0_violates_9 13 rfl rfl)
theorem dX0_violates_236 : decode cX0_violates 236 = .ok (.iconst 0, 1) := dk_3 (dk_at dksX0_violates_9 16 rfl rfl)
theorem dX0_violates_237 : decode cX0_violates 237 = .ok (.goto 44, 3) := dk_167 0 44 (dk_at dksX0_violates_9 17 rfl rfl)
theorem dX0_violates_240 : decode cX0_violates 240 = .ok (.aload_n 0, 1) := dk_42 (dk_at dksX0_violates_9 20 rfl rfl)
theorem dX0_violates_241 : decode cX0_violates 241 = .ok (.getfield 27, 3) := dk_180 0 27 (dk_at dksX0_violates_9 21 rfl rfl)
theorem dX0_violates_244 : decode cX0_violates 244 = .ok (.iload_n 2, 1) := dk_28 (dk_at dksX0_violates_10 0 rfl rfl)
theorem dX0_violates_245 : decode cX0_violates 245 = .ok (.baload, 1) := dk_51 (dk_at dksX0_violates_10 1 rfl rfl)
theorem dX0_violates_246 : decode cX0_violates 246 = .ok (.ifCond .eq 34, 3) := dk_153 0 34 (dk_at dksX0_violates_10 2 rfl rfl)
theorem dX0_violates_249 : decode cX0_violates 249 = .ok (.aload_n 0, 1) := dk_42 (dk_at dksX0_violates_10 5 rfl rfl)
theorem dX0_violates_250 : decode cX0_violates 250 = .ok (.aload_n 0, 1) := dk_42 (dk_at dksX0_violates_10 6 rfl rfl)
theorem dX0_violates_251 : decode cX0_violates 251 = .ok (.iload_n 2, 1) := dk_28 (dk_at dksX0_violates_10 7 rfl rfl)
theorem dX0_violates_252 : decode cX0_violates 252 = .ok (.invokevirtual 211, 3) := dk_182 0 211 (dk_at dksX0_violates_10 8 rfl rfl)
theorem dX0_violates_255 : decode cX0_violates 255 = .ok (.getfield 130, 3) := dk_180 0 130 (dk_at dksX0_violates_10 11 rfl rfl)
theorem dX0_violates_258 : decode cX0_violates 258 = .ok (.sipush 1440, 3) := dk_17 5 160 (dk_at dksX0_violates_10 14 rfl rfl)
theorem dX0_violates_261 : decode cX0_violates 261 = .ok (.invokevirtual 238, 3) := dk_182 0 238 (dk_at dksX0_violates_10 17 rfl rfl)
theorem dX0_violates_264 : decode cX0_violates 264 = .ok (.aload_n 0, 1) := dk_42 (dk_at dksX0_violates_10 20 rfl rfl)
theorem dX0_violates_265 : decode cX0_violates 265 = .ok (.getfield 10, 3) := dk_180 0 10 (dk_at dksX0_violates_10 21 rfl rfl)
theorem dX0_violates_268 : decode cX0_violates 268 = .ok (.getfield 190, 3) := dk_180 0 190 (dk_at dksX0_violates_11 0 rfl rfl)
theorem dX0_violates_271 : decode cX0_violates 271 = .ok (.iconst 5, 1) := dk_8 (dk_at dksX0_violates_11 3 rfl rfl)
theorem dX0_violates_272 : decode cX0_violates 272 = .ok (.iaload, 1) := dk_46 (dk_at dksX0_violates_11 4 rfl rfl)
theorem dX0_violates_273 : decode cX0_violates 273 = .ok (.if_icmp .le 7, 3) := dk_164 0 7 (dk_at dksX0_violates_11 5 rfl rfl)
theorem dX0_violates_276 : decode cX0_violates 276 = .ok (.iconst 1, 1) := dk_4 (dk_at dksX0_violates_11 8 rfl rfl)
theorem dX0_violates_277 : decode cX0_violates 277 = .ok (.goto 4, 3) := dk_167 0 4 (dk_at dksX0_violates_11 9 rfl rfl)
theorem dX0_violates_280 : decode cX0_violates 280 = .ok (.iconst 0, 1) := dk_3 (dk_at dksX0_violates_11 12 rfl rfl)
theorem dX0_violates_281 : decode cX0_violates 281 = .ok (.ireturn, 1) := dk_172 (dk_at dksX0_violates_11 13 rfl rfl)
abbrev cX0_dutyFrom : ByteArray := prog_1_method_35_code
def yX0_dutyFrom : MethodName := ⟨RX0, "dutyFrom", "(I)I"⟩
def dkwX0_dutyFrom_1 : List UInt8 := [132, 2, 1, 167, 255, 233, 2, 172]
abbrev dktX0_dutyFrom_1 : List UInt8 := dkwX0_dutyFrom_1 ++ []
def dkwX0_dutyFrom_0 : List UInt8 := [3, 61, 28, 42, 180, 0, 214, 162, 0, 21, 42, 180, 0, 24, 28, 46, 27, 160, 0, 5, 28, 172]
abbrev dktX0_dutyFrom_0 : List UInt8 := dkwX0_dutyFrom_0 ++ dktX0_dutyFrom_1
theorem dksX0_dutyFrom_0 : cX0_dutyFrom.data.toList.drop 0 = dktX0_dutyFrom_0 := by decide +kernel
theorem dksX0_dutyFrom_1 : cX0_dutyFrom.data.toList.drop 22 = dktX0_dutyFrom_1 := dk_seg dksX0_dutyFrom_0 22 rfl rfl
theorem dX0_dutyFrom_0 : decode cX0_dutyFrom 0 = .ok (.iconst 0, 1) := dk_3 (dk_at dksX0_dutyFrom_0 0 rfl rfl)
theorem dX0_dutyFrom_1 : decode cX0_dutyFrom 1 = .ok (.istore_n 2, 1) := dk_61 (dk_at dksX0_dutyFrom_0 1 rfl rfl)
theorem dX0_dutyFrom_2 : decode cX0_dutyFrom 2 = .ok (.iload_n 2, 1) := dk_28 (dk_at dksX0_dutyFrom_0 2 rfl rfl)
theorem dX0_dutyFrom_3 : decode cX0_dutyFrom 3 = .ok (.aload_n 0, 1) := dk_42 (dk_at dksX0_dutyFrom_0 3 rfl rfl)
theorem dX0_dutyFrom_4 : decode cX0_dutyFrom 4 = .ok (.getfield 214, 3) := dk_180 0 214 (dk_at dksX0_dutyFrom_0 4 rfl rfl)
theorem dX0_dutyFrom_7 : decode cX0_dutyFrom 7 = .ok (.if_icmp .ge 21, 3) := dk_162 0 21 (dk_at dksX0_dutyFrom_0 7 rfl rfl)
theorem dX0_dutyFrom_10 : decode cX0_dutyFrom 10 = .ok (.aload_n 0, 1) := dk_42 (dk_at dksX0_dutyFrom_0 10 rfl rfl)
theorem dX0_dutyFrom_11 : decode cX0_dutyFrom 11 = .ok (.getfield 24, 3) := dk_180 0 24 (dk_at dksX0_dutyFrom_0 11 rfl rfl)
theorem dX0_dutyFrom_14 : decode cX0_dutyFrom 14 = .ok (.iload_n 2, 1) := dk_28 (dk_at dksX0_dutyFrom_0 14 rfl rfl)
theorem dX0_dutyFrom_15 : decode cX0_dutyFrom 15 = .ok (.iaload, 1) := dk_46 (dk_at dksX0_dutyFrom_0 15 rfl rfl)
theorem dX0_dutyFrom_16 : decode cX0_dutyFrom 16 = .ok (.iload_n 1, 1) := dk_27 (dk_at dksX0_dutyFrom_0 16 rfl rfl)
theorem dX0_dutyFrom_17 : decode cX0_dutyFrom 17 = .ok (.if_icmp .ne 5, 3) := dk_160 0 5 (dk_at dksX0_dutyFrom_0 17 rfl rfl)
theorem dX0_dutyFrom_20 : decode cX0_dutyFrom 20 = .ok (.iload_n 2, 1) := dk_28 (dk_at dksX0_dutyFrom_0 20 rfl rfl)
theorem dX0_dutyFrom_21 : decode cX0_dutyFrom 21 = .ok (.ireturn, 1) := dk_172 (dk_at dksX0_dutyFrom_0 21 rfl rfl)
theorem dX0_dutyFrom_22 : decode cX0_dutyFrom 22 = .ok (.iinc 2 1, 3) := dk_132 2 1 (dk_at dksX0_dutyFrom_1 0 rfl rfl)
theorem dX0_dutyFrom_25 : decode cX0_dutyFrom 25 = .ok (.goto (-23), 3) := dk_167 255 233 (dk_at dksX0_dutyFrom_1 3 rfl rfl)
theorem dX0_dutyFrom_28 : decode cX0_dutyFrom 28 = .ok (.iconst (-1), 1) := dk_2 (dk_at dksX0_dutyFrom_1 6 rfl rfl)
theorem dX0_dutyFrom_29 : decode cX0_dutyFrom 29 = .ok (.ireturn, 1) := dk_172 (dk_at dksX0_dutyFrom_1 7 rfl rfl)
abbrev cX0_dutyLength : ByteArray := prog_1_method_32_code
def yX0_dutyLength : MethodName := ⟨RX0, "dutyLength", "(I)I"⟩
def dkwX0_dutyLength_1 : List UInt8 := [180, 0, 130, 100, 172]
abbrev dktX0_dutyLength_1 : List UInt8 := dkwX0_dutyLength_1 ++ []
def dkwX0_dutyLength_0 : List UInt8 := [42, 42, 27, 182, 0, 220, 4, 100, 182, 0, 211, 180, 0, 181, 42, 42, 180, 0, 24, 27, 46, 182, 0, 211]
abbrev dktX0_dutyLength_0 : List UInt8 := dkwX0_dutyLength_0 ++ dktX0_dutyLength_1
theorem dksX0_dutyLength_0 : cX0_dutyLength.data.toList.drop 0 = dktX0_dutyLength_0 := by decide +kernel
theorem dksX0_dutyLength_1 : cX0_dutyLength.data.toList.drop 24 = dktX0_dutyLength_1 := dk_seg dksX0_dutyLength_0 24 rfl rfl
theorem dX0_dutyLength_0 : decode cX0_dutyLength 0 = .ok (.aload_n 0, 1) := dk_42 (dk_at dksX0_dutyLength_0 0 rfl rfl)
theorem dX0_dutyLength_1 : decode cX0_dutyLength 1 = .ok (.aload_n 0, 1) := dk_42 (dk_at dksX0_dutyLength_0 1 rfl rfl)
theorem dX0_dutyLength_2 : decode cX0_dutyLength 2 = .ok (.iload_n 1, 1) := dk_27 (dk_at dksX0_dutyLength_0 2 rfl rfl)
theorem dX0_dutyLength_3 : decode cX0_dutyLength 3 = .ok (.invokevirtual 220, 3) := dk_182 0 220 (dk_at dksX0_dutyLength_0 3 rfl rfl)
theorem dX0_dutyLength_6 : decode cX0_dutyLength 6 = .ok (.iconst 1, 1) := dk_4 (dk_at dksX0_dutyLength_0 6 rfl rfl)
theorem dX0_dutyLength_7 : decode cX0_dutyLength 7 = .ok (.isub, 1) := dk_100 (dk_at dksX0_dutyLength_0 7 rfl rfl)
theorem dX0_dutyLength_8 : decode cX0_dutyLength 8 = .ok (.invokevirtual 211, 3) := dk_182 0 211 (dk_at dksX0_dutyLength_0 8 rfl rfl)
theorem dX0_dutyLength_11 : decode cX0_dutyLength 11 = .ok (.getfield 181, 3) := dk_180 0 181 (dk_at dksX0_dutyLength_0 11 rfl rfl)
theorem dX0_dutyLength_14 : decode cX0_dutyLength 14 = .ok (.aload_n 0, 1) := dk_42 (dk_at dksX0_dutyLength_0 14 rfl rfl)
theorem dX0_dutyLength_15 : decode cX0_dutyLength 15 = .ok (.aload_n 0, 1) := dk_42 (dk_at dksX0_dutyLength_0 15 rfl rfl)
theorem dX0_dutyLength_16 : decode cX0_dutyLength 16 = .ok (.getfield 24, 3) := dk_180 0 24 (dk_at dksX0_dutyLength_0 16 rfl rfl)
theorem dX0_dutyLength_19 : decode cX0_dutyLength 19 = .ok (.iload_n 1, 1) := dk_27 (dk_at dksX0_dutyLength_0 19 rfl rfl)
theorem dX0_dutyLength_20 : decode cX0_dutyLength 20 = .ok (.iaload, 1) := dk_46 (dk_at dksX0_dutyLength_0 20 rfl rfl)
theorem dX0_dutyLength_21 : decode cX0_dutyLength 21 = .ok (.invokevirtual 211, 3) := dk_182 0 211 (dk_at dksX0_dutyLength_0 21 rfl rfl)
theorem dX0_dutyLength_24 : decode cX0_dutyLength 24 = .ok (.getfield 130, 3) := dk_180 0 130 (dk_at dksX0_dutyLength_1 0 rfl rfl)
theorem dX0_dutyLength_27 : decode cX0_dutyLength 27 = .ok (.isub, 1) := dk_100 (dk_at dksX0_dutyLength_1 3 rfl rfl)
theorem dX0_dutyLength_28 : decode cX0_dutyLength 28 = .ok (.ireturn, 1) := dk_172 (dk_at dksX0_dutyLength_1 4 rfl rfl)
abbrev cX0_dutyEnd : ByteArray := prog_1_method_31_code
def yX0_dutyEnd : MethodName := ⟨RX0, "dutyEnd", "(I)I"⟩
def dkwX0_dutyEnd_1 : List UInt8 := [180, 0, 202, 172]
abbrev dktX0_dutyEnd_1 : List UInt8 := dkwX0_dutyEnd_1 ++ []
def dkwX0_dutyEnd_0 : List UInt8 := [27, 4, 96, 42, 180, 0, 214, 162, 0, 14, 42, 180, 0, 24, 27, 4, 96, 46, 167, 0, 7, 42]
abbrev dktX0_dutyEnd_0 : List UInt8 := dkwX0_dutyEnd_0 ++ dktX0_dutyEnd_1
theorem dksX0_dutyEnd_0 : cX0_dutyEnd.data.toList.drop 0 = dktX0_dutyEnd_0 := by decide +kernel
theorem dksX0_dutyEnd_1 : cX0_dutyEnd.data.toList.drop 22 = dktX0_dutyEnd_1 := dk_seg dksX0_dutyEnd_0 22 rfl rfl
theorem dX0_dutyEnd_0 : decode cX0_dutyEnd 0 = .ok (.iload_n 1, 1) := dk_27 (dk_at dksX0_dutyEnd_0 0 rfl rfl)
theorem dX0_dutyEnd_1 : decode cX0_dutyEnd 1 = .ok (.iconst 1, 1) := dk_4 (dk_at dksX0_dutyEnd_0 1 rfl rfl)
theorem dX0_dutyEnd_2 : decode cX0_dutyEnd 2 = .ok (.iadd, 1) := dk_96 (dk_at dksX0_dutyEnd_0 2 rfl rfl)
theorem dX0_dutyEnd_3 : decode cX0_dutyEnd 3 = .ok (.aload_n 0, 1) := dk_42 (dk_at dksX0_dutyEnd_0 3 rfl rfl)
theorem dX0_dutyEnd_4 : decode cX0_dutyEnd 4 = .ok (.getfield 214, 3) := dk_180 0 214 (dk_at dksX0_dutyEnd_0 4 rfl rfl)
theorem dX0_dutyEnd_7 : decode cX0_dutyEnd 7 = .ok (.if_icmp .ge 14, 3) := dk_162 0 14 (dk_at dksX0_dutyEnd_0 7 rfl rfl)
theorem dX0_dutyEnd_10 : decode cX0_dutyEnd 10 = .ok (.aload_n 0, 1) := dk_42 (dk_at dksX0_dutyEnd_0 10 rfl rfl)
theorem dX0_dutyEnd_11 : decode cX0_dutyEnd 11 = .ok (.getfield 24, 3) := dk_180 0 24 (dk_at dksX0_dutyEnd_0 11 rfl rfl)
theorem dX0_dutyEnd_14 : decode cX0_dutyEnd 14 = .ok (.iload_n 1, 1) := dk_27 (dk_at dksX0_dutyEnd_0 14 rfl rfl)
theorem dX0_dutyEnd_15 : decode cX0_dutyEnd 15 = .ok (.iconst 1, 1) := dk_4 (dk_at dksX0_dutyEnd_0 15 rfl rfl)
theorem dX0_dutyEnd_16 : decode cX0_dutyEnd 16 = .ok (.iadd, 1) := dk_96 (dk_at dksX0_dutyEnd_0 16 rfl rfl)
theorem dX0_dutyEnd_17 : decode cX0_dutyEnd 17 = .ok (.iaload, 1) := dk_46 (dk_at dksX0_dutyEnd_0 17 rfl rfl)
theorem dX0_dutyEnd_18 : decode cX0_dutyEnd 18 = .ok (.goto 7, 3) := dk_167 0 7 (dk_at dksX0_dutyEnd_0 18 rfl rfl)
theorem dX0_dutyEnd_21 : decode cX0_dutyEnd 21 = .ok (.aload_n 0, 1) := dk_42 (dk_at dksX0_dutyEnd_0 21 rfl rfl)
theorem dX0_dutyEnd_22 : decode cX0_dutyEnd 22 = .ok (.getfield 202, 3) := dk_180 0 202 (dk_at dksX0_dutyEnd_1 0 rfl rfl)
theorem dX0_dutyEnd_25 : decode cX0_dutyEnd 25 = .ok (.ireturn, 1) := dk_172 (dk_at dksX0_dutyEnd_1 3 rfl rfl)
abbrev cX0_dutyMinutes : ByteArray := prog_1_method_33_code
def yX0_dutyMinutes : MethodName := ⟨RX0, "dutyMinutes", "(I)I"⟩
def dkwX0_dutyMinutes_2 : List UInt8 := [28, 172]
abbrev dktX0_dutyMinutes_2 : List UInt8 := dkwX0_dutyMinutes_2 ++ []
def dkwX0_dutyMinutes_1 : List UInt8 := [51, 153, 0, 14, 42, 29, 182, 0, 211, 182, 0, 223, 167, 0, 4, 3, 96, 61, 132, 3, 1, 167, 255, 220]
abbrev dktX0_dutyMinutes_1 : List UInt8 := dkwX0_dutyMinutes_1 ++ dktX0_dutyMinutes_2
def dkwX0_dutyMinutes_0 : List UInt8 := [3, 61, 42, 180, 0, 24, 27, 46, 62, 29, 42, 27, 182, 0, 220, 162, 0, 33, 28, 42, 180, 0, 27, 29]
abbrev dktX0_dutyMinutes_0 : List UInt8 := dkwX0_dutyMinutes_0 ++ dktX0_dutyMinutes_1
theorem dksX0_dutyMinutes_0 : cX0_dutyMinutes.data.toList.drop 0 = dktX0_dutyMinutes_0 := by decide +kernel
theorem dksX0_dutyMinutes_1 : cX0_dutyMinutes.data.toList.drop 24 = dktX0_dutyMinutes_1 := dk_seg dksX0_dutyMinutes_0 24 rfl rfl
theorem dksX0_dutyMinutes_2 : cX0_dutyMinutes.data.toList.drop 48 = dktX0_dutyMinutes_2 := dk_seg dksX0_dutyMinutes_1 24 rfl rfl
theorem dX0_dutyMinutes_0 : decode cX0_dutyMinutes 0 = .ok (.iconst 0, 1) := dk_3 (dk_at dksX0_dutyMinutes_0 0 rfl rfl)
theorem dX0_dutyMinutes_1 : decode cX0_dutyMinutes 1 = .ok (.istore_n 2, 1) := dk_61 (dk_at dksX0_dutyMinutes_0 1 rfl rfl)
theorem dX0_dutyMinutes_2 : decode cX0_dutyMinutes 2 = .ok (.aload_n 0, 1) := dk_42 (dk_at dksX0_dutyMinutes_0 2 rfl rfl)
theorem dX0_dutyMinutes_3 : decode cX0_dutyMinutes 3 = .ok (.getfield 24, 3) := dk_180 0 24 (dk_at dksX0_dutyMinutes_0 3 rfl rfl)
theorem dX0_dutyMinutes_6 : decode cX0_dutyMinutes 6 = .ok (.iload_n 1, 1) := dk_27 (dk_at dksX0_dutyMinutes_0 6 rfl rfl)
theorem dX0_dutyMinutes_7 : decode cX0_dutyMinutes 7 = .ok (.iaload, 1) := dk_46 (dk_at dksX0_dutyMinutes_0 7 rfl rfl)
theorem dX0_dutyMinutes_8 : decode cX0_dutyMinutes 8 = .ok (.istore_n 3, 1) := dk_62 (dk_at dksX0_dutyMinutes_0 8 rfl rfl)
theorem dX0_dutyMinutes_9 : decode cX0_dutyMinutes 9 = .ok (.iload_n 3, 1) := dk_29 (dk_at dksX0_dutyMinutes_0 9 rfl rfl)
theorem dX0_dutyMinutes_10 : decode cX0_dutyMinutes 10 = .ok (.aload_n 0, 1) := dk_42 (dk_at dksX0_dutyMinutes_0 10 rfl rfl)
theorem dX0_dutyMinutes_11 : decode cX0_dutyMinutes 11 = .ok (.iload_n 1, 1) := dk_27 (dk_at dksX0_dutyMinutes_0 11 rfl rfl)
theorem dX0_dutyMinutes_12 : decode cX0_dutyMinutes 12 = .ok (.invokevirtual 220, 3) := dk_182 0 220 (dk_at dksX0_dutyMinutes_0 12 rfl rfl)
theorem dX0_dutyMinutes_15 : decode cX0_dutyMinutes 15 = .ok (.if_icmp .ge 33, 3) := dk_162 0 33 (dk_at dksX0_dutyMinutes_0 15 rfl rfl)
theorem dX0_dutyMinutes_18 : decode cX0_dutyMinutes 18 = .ok (.iload_n 2, 1) := dk_28 (dk_at dksX0_dutyMinutes_0 18 rfl rfl)
theorem dX0_dutyMinutes_19 : decode cX0_dutyMinutes 19 = .ok (.aload_n 0, 1) := dk_42 (dk_at dksX0_dutyMinutes_0 19 rfl rfl)
theorem dX0_dutyMinutes_20 : decode cX0_dutyMinutes 20 = .ok (.getfield 27, 3) := dk_180 0 27 (dk_at dksX0_dutyMinutes_0 20 rfl rfl)
theorem dX0_dutyMinutes_23 : decode cX0_dutyMinutes 23 = .ok (.iload_n 3, 1) := dk_29 (dk_at dksX0_dutyMinutes_0 23 rfl rfl)
theorem dX0_dutyMinutes_24 : decode cX0_dutyMinutes 24 = .ok (.baload, 1) := dk_51 (dk_at dksX0_dutyMinutes_1 0 rfl rfl)
theorem dX0_dutyMinutes_25 : decode cX0_dutyMinutes 25 = .ok (.ifCond .eq 14, 3) := dk_153 0 14 (dk_at dksX0_dutyMinutes_1 1 rfl rfl)
theorem dX0_dutyMinutes_28 : decode cX0_dutyMinutes 28 = .ok (.aload_n 0, 1) := dk_42 (dk_at dksX0_dutyMinutes_1 4 rfl rfl)
theorem dX0_dutyMinutes_29 : decode cX0_dutyMinutes 29 = .ok (.iload_n 3, 1) := dk_29 (dk_at dksX0_dutyMinutes_1 5 rfl rfl)
theorem dX0_dutyMinutes_30 : decode cX0_dutyMinutes 30 = .ok (.invokevirtual 211, 3) := dk_182 0 211 (dk_at dksX0_dutyMinutes_1 6 rfl rfl)
theorem dX0_dutyMinutes_33 : decode cX0_dutyMinutes 33 = .ok (.invokevirtual 223, 3) := dk_182 0 223 (dk_at dksX0_dutyMinutes_1 9 rfl rfl)
theorem dX0_dutyMinutes_36 : decode cX0_dutyMinutes 36 = .ok (.goto 4, 3) := dk_167 0 4 (dk_at dksX0_dutyMinutes_1 12 rfl rfl)
theorem dX0_dutyMinutes_39 : decode cX0_dutyMinutes 39 = .ok (.iconst 0, 1) := dk_3 (dk_at dksX0_dutyMinutes_1 15 rfl rfl)
theorem dX0_dutyMinutes_40 : decode cX0_dutyMinutes 40 = .ok (.iadd, 1) := dk_96 (dk_at dksX0_dutyMinutes_1 16 rfl rfl)
theorem dX0_dutyMinutes_41 : decode cX0_dutyMinutes 41 = .ok (.istore_n 2, 1) := dk_61 (dk_at dksX0_dutyMinutes_1 17 rfl rfl)
theorem dX0_dutyMinutes_42 : decode cX0_dutyMinutes 42 = .ok (.iinc 3 1, 3) := dk_132 3 1 (dk_at dksX0_dutyMinutes_1 18 rfl rfl)
theorem dX0_dutyMinutes_45 : decode cX0_dutyMinutes 45 = .ok (.goto (-36), 3) := dk_167 255 220 (dk_at dksX0_dutyMinutes_1 21 rfl rfl)
theorem dX0_dutyMinutes_48 : decode cX0_dutyMinutes 48 = .ok (.iload_n 2, 1) := dk_28 (dk_at dksX0_dutyMinutes_2 0 rfl rfl)
theorem dX0_dutyMinutes_49 : decode cX0_dutyMinutes 49 = .ok (.ireturn, 1) := dk_172 (dk_at dksX0_dutyMinutes_2 1 rfl rfl)
abbrev cX0_rowWithin : ByteArray := prog_1_method_34_code
def yX0_rowWithin : MethodName := ⟨RX0, "rowWithin", "(II)I"⟩
def dkwX0_rowWithin_2 : List UInt8 := [132, 4, 1, 167, 255, 214, 29, 172]
abbrev dktX0_rowWithin_2 : List UInt8 := dkwX0_rowWithin_2 ++ []
def dkwX0_rowWithin_1 : List UInt8 := [153, 0, 19, 42, 21, 4, 182, 0, 211, 27, 27, 28, 96, 182, 0, 226, 167, 0, 4, 3, 96, 62]
abbrev dktX0_rowWithin_1 : List UInt8 := dkwX0_rowWithin_1 ++ dktX0_rowWithin_2
def dkwX0_rowWithin_0 : List UInt8 := [3, 62, 3, 54, 4, 21, 4, 42, 180, 0, 202, 162, 0, 39, 29, 42, 180, 0, 27, 21, 4, 51]
abbrev dktX0_rowWithin_0 : List UInt8 := dkwX0_rowWithin_0 ++ dktX0_rowWithin_1
theorem dksX0_rowWithin_0 : cX0_rowWithin.data.toList.drop 0 = dktX0_rowWithin_0 := by decide +kernel
theorem dksX0_rowWithin_1 : cX0_rowWithin.data.toList.drop 22 = dktX0_rowWithin_1 := dk_seg dksX0_rowWithin_0 22 rfl rfl
theorem dksX0_rowWithin_2 : cX0_rowWithin.data.toList.drop 44 = dktX0_rowWithin_2 := dk_seg dksX0_rowWithin_1 22 rfl rfl
theorem dX0_rowWithin_0 : decode cX0_rowWithin 0 = .ok (.iconst 0, 1) := dk_3 (dk_at dksX0_rowWithin_0 0 rfl rfl)
theorem dX0_rowWithin_1 : decode cX0_rowWithin 1 = .ok (.istore_n 3, 1) := dk_62 (dk_at dksX0_rowWithin_0 1 rfl rfl)
theorem dX0_rowWithin_2 : decode cX0_rowWithin 2 = .ok (.iconst 0, 1) := dk_3 (dk_at dksX0_rowWithin_0 2 rfl rfl)
theorem dX0_rowWithin_3 : decode cX0_rowWithin 3 = .ok (.istore 4, 2) := dk_54 4 (dk_at dksX0_rowWithin_0 3 rfl rfl)
theorem dX0_rowWithin_5 : decode cX0_rowWithin 5 = .ok (.iload 4, 2) := dk_21 4 (dk_at dksX0_rowWithin_0 5 rfl rfl)
theorem dX0_rowWithin_7 : decode cX0_rowWithin 7 = .ok (.aload_n 0, 1) := dk_42 (dk_at dksX0_rowWithin_0 7 rfl rfl)
theorem dX0_rowWithin_8 : decode cX0_rowWithin 8 = .ok (.getfield 202, 3) := dk_180 0 202 (dk_at dksX0_rowWithin_0 8 rfl rfl)
theorem dX0_rowWithin_11 : decode cX0_rowWithin 11 = .ok (.if_icmp .ge 39, 3) := dk_162 0 39 (dk_at dksX0_rowWithin_0 11 rfl rfl)
theorem dX0_rowWithin_14 : decode cX0_rowWithin 14 = .ok (.iload_n 3, 1) := dk_29 (dk_at dksX0_rowWithin_0 14 rfl rfl)
theorem dX0_rowWithin_15 : decode cX0_rowWithin 15 = .ok (.aload_n 0, 1) := dk_42 (dk_at dksX0_rowWithin_0 15 rfl rfl)
theorem dX0_rowWithin_16 : decode cX0_rowWithin 16 = .ok (.getfield 27, 3) := dk_180 0 27 (dk_at dksX0_rowWithin_0 16 rfl rfl)
theorem dX0_rowWithin_19 : decode cX0_rowWithin 19 = .ok (.iload 4, 2) := dk_21 4 (dk_at dksX0_rowWithin_0 19 rfl rfl)
theorem dX0_rowWithin_21 : decode cX0_rowWithin 21 = .ok (.baload, 1) := dk_51 (dk_at dksX0_rowWithin_0 21 rfl rfl)
theorem dX0_rowWithin_22 : decode cX0_rowWithin 22 = .ok (.ifCond .eq 19, 3) := dk_153 0 19 (dk_at dksX0_rowWithin_1 0 rfl rfl)
theorem dX0_rowWithin_25 : decode cX0_rowWithin 25 = .ok (.aload_n 0, 1) := dk_42 (dk_at dksX0_rowWithin_1 3 rfl rfl)
theorem dX0_rowWithin_26 : decode cX0_rowWithin 26 = .ok (.iload 4, 2) := dk_21 4 (dk_at dksX0_rowWithin_1 4 rfl rfl)
theorem dX0_rowWithin_28 : decode cX0_rowWithin 28 = .ok (.invokevirtual 211, 3) := dk_182 0 211 (dk_at dksX0_rowWithin_1 6 rfl rfl)
theorem dX0_rowWithin_31 : decode cX0_rowWithin 31 = .ok (.iload_n 1, 1) := dk_27 (dk_at dksX0_rowWithin_1 9 rfl rfl)
theorem dX0_rowWithin_32 : decode cX0_rowWithin 32 = .ok (.iload_n 1, 1) := dk_27 (dk_at dksX0_rowWithin_1 10 rfl rfl)
theorem dX0_rowWithin_33 : decode cX0_rowWithin 33 = .ok (.iload_n 2, 1) := dk_28 (dk_at dksX0_rowWithin_1 11 rfl rfl)
theorem dX0_rowWithin_34 : decode cX0_rowWithin 34 = .ok (.iadd, 1) := dk_96 (dk_at dksX0_rowWithin_1 12 rfl rfl)
theorem dX0_rowWithin_35 : decode cX0_rowWithin 35 = .ok (.invokevirtual 226, 3) := dk_182 0 226 (dk_at dksX0_rowWithin_1 13 rfl rfl)
theorem dX0_rowWithin_38 : decode cX0_rowWithin 38 = .ok (.goto 4, 3) := dk_167 0 4 (dk_at dksX0_rowWithin_1 16 rfl rfl)
theorem dX0_rowWithin_41 : decode cX0_rowWithin 41 = .ok (.iconst 0, 1) := dk_3 (dk_at dksX0_rowWithin_1 19 rfl rfl)
theorem dX0_rowWithin_42 : decode cX0_rowWithin 42 = .ok (.iadd, 1) := dk_96 (dk_at dksX0_rowWithin_1 20 rfl rfl)
theorem dX0_rowWithin_43 : decode cX0_rowWithin 43 = .ok (.istore_n 3, 1) := dk_62 (dk_at dksX0_rowWithin_1 21 rfl rfl)
theorem dX0_rowWithin_44 : decode cX0_rowWithin 44 = .ok (.iinc 4 1, 3) := dk_132 4 1 (dk_at dksX0_rowWithin_2 0 rfl rfl)
theorem dX0_rowWithin_47 : decode cX0_rowWithin 47 = .ok (.goto (-42), 3) := dk_167 255 214 (dk_at dksX0_rowWithin_2 3 rfl rfl)
theorem dX0_rowWithin_50 : decode cX0_rowWithin 50 = .ok (.iload_n 3, 1) := dk_29 (dk_at dksX0_rowWithin_2 6 rfl rfl)
theorem dX0_rowWithin_51 : decode cX0_rowWithin 51 = .ok (.ireturn, 1) := dk_172 (dk_at dksX0_rowWithin_2 7 rfl rfl)
abbrev cX0_storeRow : ByteArray := prog_1_method_25_code
def yX0_storeRow : MethodName := ⟨RX0, "storeRow", "(I)V"⟩
def dkwX0_storeRow_2 : List UInt8 := [177]
abbrev dktX0_storeRow_2 : List UInt8 := dkwX0_storeRow_2 ++ []
def dkwX0_storeRow_1 : List UInt8 := [42, 180, 0, 202, 184, 0, 91, 42, 180, 0, 27, 3, 44, 180, 0, 168, 3, 42, 180, 0, 202, 184, 0, 91]
abbrev dktX0_storeRow_1 : List UInt8 := dkwX0_storeRow_1 ++ dktX0_storeRow_2
def dkwX0_storeRow_0 : List UInt8 := [42, 27, 182, 0, 160, 77, 44, 42, 180, 0, 202, 181, 0, 199, 42, 180, 0, 20, 3, 44, 180, 0, 205, 3]
abbrev dktX0_storeRow_0 : List UInt8 := dkwX0_storeRow_0 ++ dktX0_storeRow_1
theorem dksX0_storeRow_0 : cX0_storeRow.data.toList.drop 0 = dktX0_storeRow_0 := by decide +kernel
theorem dksX0_storeRow_1 : cX0_storeRow.data.toList.drop 24 = dktX0_storeRow_1 := dk_seg dksX0_storeRow_0 24 rfl rfl
theorem dksX0_storeRow_2 : cX0_storeRow.data.toList.drop 48 = dktX0_storeRow_2 := dk_seg dksX0_storeRow_1 24 rfl rfl
theorem dX0_storeRow_0 : decode cX0_storeRow 0 = .ok (.aload_n 0, 1) := dk_42 (dk_at dksX0_storeRow_0 0 rfl rfl)
theorem dX0_storeRow_1 : decode cX0_storeRow 1 = .ok (.iload_n 1, 1) := dk_27 (dk_at dksX0_storeRow_0 1 rfl rfl)
theorem dX0_storeRow_2 : decode cX0_storeRow 2 = .ok (.invokevirtual 160, 3) := dk_182 0 160 (dk_at dksX0_storeRow_0 2 rfl rfl)
theorem dX0_storeRow_5 : decode cX0_storeRow 5 = .ok (.astore_n 2, 1) := dk_77 (dk_at dksX0_storeRow_0 5 rfl rfl)
theorem dX0_storeRow_6 : decode cX0_storeRow 6 = .ok (.aload_n 2, 1) := dk_44 (dk_at dksX0_storeRow_0 6 rfl rfl)
theorem dX0_storeRow_7 : decode cX0_storeRow 7 = .ok (.aload_n 0, 1) := dk_42 (dk_at dksX0_storeRow_0 7 rfl rfl)
theorem dX0_storeRow_8 : decode cX0_storeRow 8 = .ok (.getfield 202, 3) := dk_180 0 202 (dk_at dksX0_storeRow_0 8 rfl rfl)
theorem dX0_storeRow_11 : decode cX0_storeRow 11 = .ok (.putfield 199, 3) := dk_181 0 199 (dk_at dksX0_storeRow_0 11 rfl rfl)
theorem dX0_storeRow_14 : decode cX0_storeRow 14 = .ok (.aload_n 0, 1) := dk_42 (dk_at dksX0_storeRow_0 14 rfl rfl)
theorem dX0_storeRow_15 : decode cX0_storeRow 15 = .ok (.getfield 20, 3) := dk_180 0 20 (dk_at dksX0_storeRow_0 15 rfl rfl)
theorem dX0_storeRow_18 : decode cX0_storeRow 18 = .ok (.iconst 0, 1) := dk_3 (dk_at dksX0_storeRow_0 18 rfl rfl)
theorem dX0_storeRow_19 : decode cX0_storeRow 19 = .ok (.aload_n 2, 1) := dk_44 (dk_at dksX0_storeRow_0 19 rfl rfl)
theorem dX0_storeRow_20 : decode cX0_storeRow 20 = .ok (.getfield 205, 3) := dk_180 0 205 (dk_at dksX0_storeRow_0 20 rfl rfl)
theorem dX0_storeRow_23 : decode cX0_storeRow 23 = .ok (.iconst 0, 1) := dk_3 (dk_at dksX0_storeRow_0 23 rfl rfl)
theorem dX0_storeRow_24 : decode cX0_storeRow 24 = .ok (.aload_n 0, 1) := dk_42 (dk_at dksX0_storeRow_1 0 rfl rfl)
theorem dX0_storeRow_25 : decode cX0_storeRow 25 = .ok (.getfield 202, 3) := dk_180 0 202 (dk_at dksX0_storeRow_1 1 rfl rfl)
theorem dX0_storeRow_28 : decode cX0_storeRow 28 = .ok (.invokestatic 91, 3) := dk_184 0 91 (dk_at dksX0_storeRow_1 4 rfl rfl)
theorem dX0_storeRow_31 : decode cX0_storeRow 31 = .ok (.aload_n 0, 1) := dk_42 (dk_at dksX0_storeRow_1 7 rfl rfl)
theorem dX0_storeRow_32 : decode cX0_storeRow 32 = .ok (.getfield 27, 3) := dk_180 0 27 (dk_at dksX0_storeRow_1 8 rfl rfl)
theorem dX0_storeRow_35 : decode cX0_storeRow 35 = .ok (.iconst 0, 1) := dk_3 (dk_at dksX0_storeRow_1 11 rfl rfl)
theorem dX0_storeRow_36 : decode cX0_storeRow 36 = .ok (.aload_n 2, 1) := dk_44 (dk_at dksX0_storeRow_1 12 rfl rfl)
theorem dX0_storeRow_37 : decode cX0_storeRow 37 = .ok (.getfield 168, 3) := dk_180 0 168 (dk_at dksX0_storeRow_1 13 rfl rfl)
theorem dX0_storeRow_40 : decode cX0_storeRow 40 = .ok (.iconst 0, 1) := dk_3 (dk_at dksX0_storeRow_1 16 rfl rfl)
theorem dX0_storeRow_41 : decode cX0_storeRow 41 = .ok (.aload_n 0, 1) := dk_42 (dk_at dksX0_storeRow_1 17 rfl rfl)
theorem dX0_storeRow_42 : decode cX0_storeRow 42 = .ok (.getfield 202, 3) := dk_180 0 202 (dk_at dksX0_storeRow_1 18 rfl rfl)
theorem dX0_storeRow_45 : decode cX0_storeRow 45 = .ok (.invokestatic 91, 3) := dk_184 0 91 (dk_at dksX0_storeRow_1 21 rfl rfl)
theorem dX0_storeRow_48 : decode cX0_storeRow 48 = .ok (.return_, 1) := dk_177 (dk_at dksX0_storeRow_2 0 rfl rfl)
abbrev cX0_ride : ByteArray := prog_1_method_43_code
def yX0_ride : MethodName := ⟨RX0, "ride", "(II)I"⟩
def dkwX0_ride_0 : List UInt8 := [42, 27, 28, 3, 182, 1, 24, 172]
abbrev dktX0_ride_0 : List UInt8 := dkwX0_ride_0 ++ []
theorem dksX0_ride_0 : cX0_ride.data.toList.drop 0 = dktX0_ride_0 := by decide +kernel
theorem dX0_ride_0 : decode cX0_ride 0 = .ok (.aload_n 0, 1) := dk_42 (dk_at dksX0_ride_0 0 rfl rfl)
theorem dX0_ride_1 : decode cX0_ride 1 = .ok (.iload_n 1, 1) := dk_27 (dk_at dksX0_ride_0 1 rfl rfl)
theorem dX0_ride_2 : decode cX0_ride 2 = .ok (.iload_n 2, 1) := dk_28 (dk_at dksX0_ride_0 2 rfl rfl)
theorem dX0_ride_3 : decode cX0_ride 3 = .ok (.iconst 0, 1) := dk_3 (dk_at dksX0_ride_0 3 rfl rfl)
theorem dX0_ride_4 : decode cX0_ride 4 = .ok (.invokevirtual 280, 3) := dk_182 1 24 (dk_at dksX0_ride_0 4 rfl rfl)
theorem dX0_ride_7 : decode cX0_ride 7 = .ok (.ireturn, 1) := dk_172 (dk_at dksX0_ride_0 7 rfl rfl)
abbrev cX0_drop : ByteArray := prog_1_method_44_code
def yX0_drop : MethodName := ⟨RX0, "drop", "(II)I"⟩
def dkwX0_drop_2 : List UInt8 := [182, 0, 164, 182, 1, 27, 45, 180, 0, 199, 172]
abbrev dktX0_drop_2 : List UInt8 := dkwX0_drop_2 ++ []
def dkwX0_drop_1 : List UInt8 := [182, 0, 164, 156, 0, 6, 16, 254, 172, 42, 182, 0, 112, 42, 27, 182, 0, 160, 78, 45, 45, 28]
abbrev dktX0_drop_1 : List UInt8 := dkwX0_drop_1 ++ dktX0_drop_2
def dkwX0_drop_0 : List UInt8 := [42, 27, 182, 1, 14, 153, 0, 11, 42, 28, 182, 0, 177, 154, 0, 5, 2, 172, 42, 27, 182, 0, 160, 28]
abbrev dktX0_drop_0 : List UInt8 := dkwX0_drop_0 ++ dktX0_drop_1
theorem dksX0_drop_0 : cX0_drop.data.toList.drop 0 = dktX0_drop_0 := by decide +kernel
theorem dksX0_drop_1 : cX0_drop.data.toList.drop 24 = dktX0_drop_1 := dk_seg dksX0_drop_0 24 rfl rfl
theorem dksX0_drop_2 : cX0_drop.data.toList.drop 46 = dktX0_drop_2 := dk_seg dksX0_drop_1 22 rfl rfl
theorem dX0_drop_0 : decode cX0_drop 0 = .ok (.aload_n 0, 1) := dk_42 (dk_at dksX0_drop_0 0 rfl rfl)
theorem dX0_drop_1 : decode cX0_drop 1 = .ok (.iload_n 1, 1) := dk_27 (dk_at dksX0_drop_0 1 rfl rfl)
theorem dX0_drop_2 : decode cX0_drop 2 = .ok (.invokevirtual 270, 3) := dk_182 1 14 (dk_at dksX0_drop_0 2 rfl rfl)
theorem dX0_drop_5 : decode cX0_drop 5 = .ok (.ifCond .eq 11, 3) := dk_153 0 11 (dk_at dksX0_drop_0 5 rfl rfl)
theorem dX0_drop_8 : decode cX0_drop 8 = .ok (.aload_n 0, 1) := dk_42 (dk_at dksX0_drop_0 8 rfl rfl)
theorem dX0_drop_9 : decode cX0_drop 9 = .ok (.iload_n 2, 1) := dk_28 (dk_at dksX0_drop_0 9 rfl rfl)
theorem dX0_drop_10 : decode cX0_drop 10 = .ok (.invokevirtual 177, 3) := dk_182 0 177 (dk_at dksX0_drop_0 10 rfl rfl)
theorem dX0_drop_13 : decode cX0_drop 13 = .ok (.ifCond .ne 5, 3) := dk_154 0 5 (dk_at dksX0_drop_0 13 rfl rfl)
theorem dX0_drop_16 : decode cX0_drop 16 = .ok (.iconst (-1), 1) := dk_2 (dk_at dksX0_drop_0 16 rfl rfl)
theorem dX0_drop_17 : decode cX0_drop 17 = .ok (.ireturn, 1) := dk_172 (dk_at dksX0_drop_0 17 rfl rfl)
theorem dX0_drop_18 : decode cX0_drop 18 = .ok (.aload_n 0, 1) := dk_42 (dk_at dksX0_drop_0 18 rfl rfl)
theorem dX0_drop_19 : decode cX0_drop 19 = .ok (.iload_n 1, 1) := dk_27 (dk_at dksX0_drop_0 19 rfl rfl)
theorem dX0_drop_20 : decode cX0_drop 20 = .ok (.invokevirtual 160, 3) := dk_182 0 160 (dk_at dksX0_drop_0 20 rfl rfl)
theorem dX0_drop_23 : decode cX0_drop 23 = .ok (.iload_n 2, 1) := dk_28 (dk_at dksX0_drop_0 23 rfl rfl)
theorem dX0_drop_24 : decode cX0_drop 24 = .ok (.invokevirtual 164, 3) := dk_182 0 164 (dk_at dksX0_drop_1 0 rfl rfl)
theorem dX0_drop_27 : decode cX0_drop 27 = .ok (.ifCond .ge 6, 3) := dk_156 0 6 (dk_at dksX0_drop_1 3 rfl rfl)
theorem dX0_drop_30 : decode cX0_drop 30 = .ok (.bipush (-2), 2) := dk_16 254 (dk_at dksX0_drop_1 6 rfl rfl)
theorem dX0_drop_32 : decode cX0_drop 32 = .ok (.ireturn, 1) := dk_172 (dk_at dksX0_drop_1 8 rfl rfl)
theorem dX0_drop_33 : decode cX0_drop 33 = .ok (.aload_n 0, 1) := dk_42 (dk_at dksX0_drop_1 9 rfl rfl)
theorem dX0_drop_34 : decode cX0_drop 34 = .ok (.invokevirtual 112, 3) := dk_182 0 112 (dk_at dksX0_drop_1 10 rfl rfl)
theorem dX0_drop_37 : decode cX0_drop 37 = .ok (.aload_n 0, 1) := dk_42 (dk_at dksX0_drop_1 13 rfl rfl)
theorem dX0_drop_38 : decode cX0_drop 38 = .ok (.iload_n 1, 1) := dk_27 (dk_at dksX0_drop_1 14 rfl rfl)
theorem dX0_drop_39 : decode cX0_drop 39 = .ok (.invokevirtual 160, 3) := dk_182 0 160 (dk_at dksX0_drop_1 15 rfl rfl)
theorem dX0_drop_42 : decode cX0_drop 42 = .ok (.astore_n 3, 1) := dk_78 (dk_at dksX0_drop_1 18 rfl rfl)
theorem dX0_drop_43 : decode cX0_drop 43 = .ok (.aload_n 3, 1) := dk_45 (dk_at dksX0_drop_1 19 rfl rfl)
theorem dX0_drop_44 : decode cX0_drop 44 = .ok (.aload_n 3, 1) := dk_45 (dk_at dksX0_drop_1 20 rfl rfl)
theorem dX0_drop_45 : decode cX0_drop 45 = .ok (.iload_n 2, 1) := dk_28 (dk_at dksX0_drop_1 21 rfl rfl)
theorem dX0_drop_46 : decode cX0_drop 46 = .ok (.invokevirtual 164, 3) := dk_182 0 164 (dk_at dksX0_drop_2 0 rfl rfl)
theorem dX0_drop_49 : decode cX0_drop 49 = .ok (.invokevirtual 283, 3) := dk_182 1 27 (dk_at dksX0_drop_2 3 rfl rfl)
theorem dX0_drop_52 : decode cX0_drop 52 = .ok (.aload_n 3, 1) := dk_45 (dk_at dksX0_drop_2 6 rfl rfl)
theorem dX0_drop_53 : decode cX0_drop 53 = .ok (.getfield 199, 3) := dk_180 0 199 (dk_at dksX0_drop_2 7 rfl rfl)
theorem dX0_drop_56 : decode cX0_drop 56 = .ok (.ireturn, 1) := dk_172 (dk_at dksX0_drop_2 10 rfl rfl)
abbrev cX0_reason : ByteArray := prog_1_method_45_code
def yX0_reason : MethodName := ⟨RX0, "reason", "(IIZ)I"⟩
def dkwX0_reason_1 : List UInt8 := [167, 0, 4, 2, 172]
abbrev dktX0_reason_1 : List UInt8 := dkwX0_reason_1 ++ []
def dkwX0_reason_0 : List UInt8 := [42, 27, 182, 1, 14, 153, 0, 21, 42, 28, 182, 0, 177, 153, 0, 13, 42, 27, 28, 29, 182, 1, 17]
abbrev dktX0_reason_0 : List UInt8 := dkwX0_reason_0 ++ dktX0_reason_1
theorem dksX0_reason_0 : cX0_reason.data.toList.drop 0 = dktX0_reason_0 := by decide +kernel
theorem dksX0_reason_1 : cX0_reason.data.toList.drop 23 = dktX0_reason_1 := dk_seg dksX0_reason_0 23 rfl rfl
theorem dX0_reason_0 : decode cX0_reason 0 = .ok (.aload_n 0, 1) := dk_42 (dk_at dksX0_reason_0 0 rfl rfl)
theorem dX0_reason_1 : decode cX0_reason 1 = .ok (.iload_n 1, 1) := dk_27 (dk_at dksX0_reason_0 1 rfl rfl)
theorem dX0_reason_2 : decode cX0_reason 2 = .ok (.invokevirtual 270, 3) := dk_182 1 14 (dk_at dksX0_reason_0 2 rfl rfl)
theorem dX0_reason_5 : decode cX0_reason 5 = .ok (.ifCond .eq 21, 3) := dk_153 0 21 (dk_at dksX0_reason_0 5 rfl rfl)
theorem dX0_reason_8 : decode cX0_reason 8 = .ok (.aload_n 0, 1) := dk_42 (dk_at dksX0_reason_0 8 rfl rfl)
theorem dX0_reason_9 : decode cX0_reason 9 = .ok (.iload_n 2, 1) := dk_28 (dk_at dksX0_reason_0 9 rfl rfl)
theorem dX0_reason_10 : decode cX0_reason 10 = .ok (.invokevirtual 177, 3) := dk_182 0 177 (dk_at dksX0_reason_0 10 rfl rfl)
theorem dX0_reason_13 : decode cX0_reason 13 = .ok (.ifCond .eq 13, 3) := dk_153 0 13 (dk_at dksX0_reason_0 13 rfl rfl)
theorem dX0_reason_16 : decode cX0_reason 16 = .ok (.aload_n 0, 1) := dk_42 (dk_at dksX0_reason_0 16 rfl rfl)
theorem dX0_reason_17 : decode cX0_reason 17 = .ok (.iload_n 1, 1) := dk_27 (dk_at dksX0_reason_0 17 rfl rfl)
theorem dX0_reason_18 : decode cX0_reason 18 = .ok (.iload_n 2, 1) := dk_28 (dk_at dksX0_reason_0 18 rfl rfl)
theorem dX0_reason_19 : decode cX0_reason 19 = .ok (.iload_n 3, 1) := dk_29 (dk_at dksX0_reason_0 19 rfl rfl)
theorem dX0_reason_20 : decode cX0_reason 20 = .ok (.invokevirtual 273, 3) := dk_182 1 17 (dk_at dksX0_reason_0 20 rfl rfl)
theorem dX0_reason_23 : decode cX0_reason 23 = .ok (.goto 4, 3) := dk_167 0 4 (dk_at dksX0_reason_1 0 rfl rfl)
theorem dX0_reason_26 : decode cX0_reason 26 = .ok (.iconst (-1), 1) := dk_2 (dk_at dksX0_reason_1 3 rfl rfl)
theorem dX0_reason_27 : decode cX0_reason 27 = .ok (.ireturn, 1) := dk_172 (dk_at dksX0_reason_1 4 rfl rfl)
abbrev cX0_place : ByteArray := prog_1_method_46_code
def yX0_place : MethodName := ⟨RX0, "place", "(IIZ)I"⟩
def dkwX0_place_1 : List UInt8 := [182, 1, 17, 4, 16, 7, 184, 0, 72, 153, 0, 10, 42, 180, 0, 250, 167, 0, 5, 16, 254, 172]
abbrev dktX0_place_1 : List UInt8 := dkwX0_place_1 ++ []
def dkwX0_place_0 : List UInt8 := [42, 27, 182, 1, 14, 153, 0, 11, 42, 28, 182, 0, 177, 154, 0, 5, 2, 172, 42, 27, 28, 29]
abbrev dktX0_place_0 : List UInt8 := dkwX0_place_0 ++ dktX0_place_1
theorem dksX0_place_0 : cX0_place.data.toList.drop 0 = dktX0_place_0 := by decide +kernel
theorem dksX0_place_1 : cX0_place.data.toList.drop 22 = dktX0_place_1 := dk_seg dksX0_place_0 22 rfl rfl
theorem dX0_place_0 : decode cX0_place 0 = .ok (.aload_n 0, 1) := dk_42 (dk_at dksX0_place_0 0 rfl rfl)
theorem dX0_place_1 : decode cX0_place 1 = .ok (.iload_n 1, 1) := dk_27 (dk_at dksX0_place_0 1 rfl rfl)
theorem dX0_place_2 : decode cX0_place 2 = .ok (.invokevirtual 270, 3) := dk_182 1 14 (dk_at dksX0_place_0 2 rfl rfl)
theorem dX0_place_5 : decode cX0_place 5 = .ok (.ifCond .eq 11, 3) := dk_153 0 11 (dk_at dksX0_place_0 5 rfl rfl)
theorem dX0_place_8 : decode cX0_place 8 = .ok (.aload_n 0, 1) := dk_42 (dk_at dksX0_place_0 8 rfl rfl)
theorem dX0_place_9 : decode cX0_place 9 = .ok (.iload_n 2, 1) := dk_28 (dk_at dksX0_place_0 9 rfl rfl)
theorem dX0_place_10 : decode cX0_place 10 = .ok (.invokevirtual 177, 3) := dk_182 0 177 (dk_at dksX0_place_0 10 rfl rfl)
theorem dX0_place_13 : decode cX0_place 13 = .ok (.ifCond .ne 5, 3) := dk_154 0 5 (dk_at dksX0_place_0 13 rfl rfl)
theorem dX0_place_16 : decode cX0_place 16 = .ok (.iconst (-1), 1) := dk_2 (dk_at dksX0_place_0 16 rfl rfl)
theorem dX0_place_17 : decode cX0_place 17 = .ok (.ireturn, 1) := dk_172 (dk_at dksX0_place_0 17 rfl rfl)
theorem dX0_place_18 : decode cX0_place 18 = .ok (.aload_n 0, 1) := dk_42 (dk_at dksX0_place_0 18 rfl rfl)
theorem dX0_place_19 : decode cX0_place 19 = .ok (.iload_n 1, 1) := dk_27 (dk_at dksX0_place_0 19 rfl rfl)
theorem dX0_place_20 : decode cX0_place 20 = .ok (.iload_n 2, 1) := dk_28 (dk_at dksX0_place_0 20 rfl rfl)
theorem dX0_place_21 : decode cX0_place 21 = .ok (.iload_n 3, 1) := dk_29 (dk_at dksX0_place_0 21 rfl rfl)
theorem dX0_place_22 : decode cX0_place 22 = .ok (.invokevirtual 273, 3) := dk_182 1 17 (dk_at dksX0_place_1 0 rfl rfl)
theorem dX0_place_25 : decode cX0_place 25 = .ok (.iconst 1, 1) := dk_4 (dk_at dksX0_place_1 3 rfl rfl)
theorem dX0_place_26 : decode cX0_place 26 = .ok (.bipush 7, 2) := dk_16 7 (dk_at dksX0_place_1 4 rfl rfl)
theorem dX0_place_28 : decode cX0_place 28 = .ok (.invokestatic 72, 3) := dk_184 0 72 (dk_at dksX0_place_1 6 rfl rfl)
theorem dX0_place_31 : decode cX0_place 31 = .ok (.ifCond .eq 10, 3) := dk_153 0 10 (dk_at dksX0_place_1 9 rfl rfl)
theorem dX0_place_34 : decode cX0_place 34 = .ok (.aload_n 0, 1) := dk_42 (dk_at dksX0_place_1 12 rfl rfl)
theorem dX0_place_35 : decode cX0_place 35 = .ok (.getfield 250, 3) := dk_180 0 250 (dk_at dksX0_place_1 13 rfl rfl)
theorem dX0_place_38 : decode cX0_place 38 = .ok (.goto 5, 3) := dk_167 0 5 (dk_at dksX0_place_1 16 rfl rfl)
theorem dX0_place_41 : decode cX0_place 41 = .ok (.bipush (-2), 2) := dk_16 254 (dk_at dksX0_place_1 19 rfl rfl)
theorem dX0_place_43 : decode cX0_place 43 = .ok (.ireturn, 1) := dk_172 (dk_at dksX0_place_1 21 rfl rfl)
abbrev cX0_itemCount : ByteArray := prog_1_method_47_code
def yX0_itemCount : MethodName := ⟨RX0, "itemCount", "(I)I"⟩
def dkwX0_itemCount_0 : List UInt8 := [42, 27, 182, 1, 14, 153, 0, 14, 42, 27, 182, 0, 160, 180, 0, 199, 167, 0, 4, 2, 172]
abbrev dktX0_itemCount_0 : List UInt8 := dkwX0_itemCount_0 ++ []
theorem dksX0_itemCount_0 : cX0_itemCount.data.toList.drop 0 = dktX0_itemCount_0 := by decide +kernel
theorem dX0_itemCount_0 : decode cX0_itemCount 0 = .ok (.aload_n 0, 1) := dk_42 (dk_at dksX0_itemCount_0 0 rfl rfl)
theorem dX0_itemCount_1 : decode cX0_itemCount 1 = .ok (.iload_n 1, 1) := dk_27 (dk_at dksX0_itemCount_0 1 rfl rfl)
theorem dX0_itemCount_2 : decode cX0_itemCount 2 = .ok (.invokevirtual 270, 3) := dk_182 1 14 (dk_at dksX0_itemCount_0 2 rfl rfl)
theorem dX0_itemCount_5 : decode cX0_itemCount 5 = .ok (.ifCond .eq 14, 3) := dk_153 0 14 (dk_at dksX0_itemCount_0 5 rfl rfl)
theorem dX0_itemCount_8 : decode cX0_itemCount 8 = .ok (.aload_n 0, 1) := dk_42 (dk_at dksX0_itemCount_0 8 rfl rfl)
theorem dX0_itemCount_9 : decode cX0_itemCount 9 = .ok (.iload_n 1, 1) := dk_27 (dk_at dksX0_itemCount_0 9 rfl rfl)
theorem dX0_itemCount_10 : decode cX0_itemCount 10 = .ok (.invokevirtual 160, 3) := dk_182 0 160 (dk_at dksX0_itemCount_0 10 rfl rfl)
theorem dX0_itemCount_13 : decode cX0_itemCount 13 = .ok (.getfield 199, 3) := dk_180 0 199 (dk_at dksX0_itemCount_0 13 rfl rfl)
theorem dX0_itemCount_16 : decode cX0_itemCount 16 = .ok (.goto 4, 3) := dk_167 0 4 (dk_at dksX0_itemCount_0 16 rfl rfl)
theorem dX0_itemCount_19 : decode cX0_itemCount 19 = .ok (.iconst (-1), 1) := dk_2 (dk_at dksX0_itemCount_0 19 rfl rfl)
theorem dX0_itemCount_20 : decode cX0_itemCount 20 = .ok (.ireturn, 1) := dk_172 (dk_at dksX0_itemCount_0 20 rfl rfl)
abbrev cX0_item : ByteArray := prog_1_method_48_code
def yX0_item : MethodName := ⟨RX0, "item", "(III)I"⟩
def dkwX0_item_4 : List UInt8 := [28, 164, 0, 9, 132, 4, 255, 167, 255, 242, 21, 4, 172]
abbrev dktX0_item_4 : List UInt8 := dkwX0_item_4 ++ []
def dkwX0_item_3 : List UInt8 := [167, 0, 4, 3, 172, 42, 182, 0, 241, 42, 180, 0, 214, 4, 100, 54, 4, 42, 180, 0, 24, 21, 4, 46]
abbrev dktX0_item_3 : List UInt8 := dkwX0_item_3 ++ dktX0_item_4
def dkwX0_item_2 : List UInt8 := [154, 0, 12, 42, 180, 0, 20, 28, 46, 167, 0, 17, 42, 180, 0, 27, 28, 51, 153, 0, 7, 4]
abbrev dktX0_item_2 : List UInt8 := dkwX0_item_2 ++ dktX0_item_3
def dkwX0_item_1 : List UInt8 := [28, 3, 42, 180, 0, 202, 4, 100, 184, 0, 72, 154, 0, 6, 16, 254, 172, 29, 5, 162, 0, 31, 29]
abbrev dktX0_item_1 : List UInt8 := dkwX0_item_1 ++ dktX0_item_2
def dkwX0_item_0 : List UInt8 := [42, 27, 182, 1, 14, 153, 0, 12, 29, 3, 5, 184, 0, 72, 154, 0, 5, 2, 172, 42, 27, 182, 1, 0]
abbrev dktX0_item_0 : List UInt8 := dkwX0_item_0 ++ dktX0_item_1
theorem dksX0_item_0 : cX0_item.data.toList.drop 0 = dktX0_item_0 := by decide +kernel
theorem dksX0_item_1 : cX0_item.data.toList.drop 24 = dktX0_item_1 := dk_seg dksX0_item_0 24 rfl rfl
theorem dksX0_item_2 : cX0_item.data.toList.drop 47 = dktX0_item_2 := dk_seg dksX0_item_1 23 rfl rfl
theorem dksX0_item_3 : cX0_item.data.toList.drop 69 = dktX0_item_3 := dk_seg dksX0_item_2 22 rfl rfl
theorem dksX0_item_4 : cX0_item.data.toList.drop 93 = dktX0_item_4 := dk_seg dksX0_item_3 24 rfl rfl
theorem dX0_item_0 : decode cX0_item 0 = .ok (.aload_n 0, 1) := dk_42 (dk_at dksX0_item_0 0 rfl rfl)
theorem dX0_item_1 : decode cX0_item 1 = .ok (.iload_n 1, 1) := dk_27 (dk_at dksX0_item_0 1 rfl rfl)
theorem dX0_item_2 : decode cX0_item 2 = .ok (.invokevirtual 270, 3) := dk_182 1 14 (dk_at dksX0_item_0 2 rfl rfl)
theorem dX0_item_5 : decode cX0_item 5 = .ok (.ifCond .eq 12, 3) := dk_153 0 12 (dk_at dksX0_item_0 5 rfl rfl)
theorem dX0_item_8 : decode cX0_item 8 = .ok (.iload_n 3, 1) := dk_29 (dk_at dksX0_item_0 8 rfl rfl)
theorem dX0_item_9 : decode cX0_item 9 = .ok (.iconst 0, 1) := dk_3 (dk_at dksX0_item_0 9 rfl rfl)
theorem dX0_item_10 : decode cX0_item 10 = .ok (.iconst 2, 1) := dk_5 (dk_at dksX0_item_0 10 rfl rfl)
theorem dX0_item_11 : decode cX0_item 11 = .ok (.invokestatic 72, 3) := dk_184 0 72 (dk_at dksX0_item_0 11 rfl rfl)
theorem dX0_item_14 : decode cX0_item 14 = .ok (.ifCond .ne 5, 3) := dk_154 0 5 (dk_at dksX0_item_0 14 rfl rfl)
theorem dX0_item_17 : decode cX0_item 17 = .ok (.iconst (-1), 1) := dk_2 (dk_at dksX0_item_0 17 rfl rfl)
theorem dX0_item_18 : decode cX0_item 18 = .ok (.ireturn, 1) := dk_172 (dk_at dksX0_item_0 18 rfl rfl)
theorem dX0_item_19 : decode cX0_item 19 = .ok (.aload_n 0, 1) := dk_42 (dk_at dksX0_item_0 19 rfl rfl)
theorem dX0_item_20 : decode cX0_item 20 = .ok (.iload_n 1, 1) := dk_27 (dk_at dksX0_item_0 20 rfl rfl)
theorem dX0_item_21 : decode cX0_item 21 = .ok (.invokevirtual 256, 3) := dk_182 1 0 (dk_at dksX0_item_0 21 rfl rfl)
theorem dX0_item_24 : decode cX0_item 24 = .ok (.iload_n 2, 1) := dk_28 (dk_at dksX0_item_1 0 rfl rfl)
theorem dX0_item_25 : decode cX0_item 25 = .ok (.iconst 0, 1) := dk_3 (dk_at dksX0_item_1 1 rfl rfl)
theorem dX0_item_26 : decode cX0_item 26 = .ok (.aload_n 0, 1) := dk_42 (dk_at dksX0_item_1 2 rfl rfl)
theorem dX0_item_27 : decode cX0_item 27 = .ok (.getfield 202, 3) := dk_180 0 202 (dk_at dksX0_item_1 3 rfl rfl)
theorem dX0_item_30 : decode cX0_item 30 = .ok (.iconst 1, 1) := dk_4 (dk_at dksX0_item_1 6 rfl rfl)
theorem dX0_item_31 : decode cX0_item 31 = .ok (.isub, 1) := dk_100 (dk_at dksX0_item_1 7 rfl rfl)
theorem dX0_item_32 : decode cX0_item 32 = .ok (.invokestatic 72, 3) := dk_184 0 72 (dk_at dksX0_item_1 8 rfl rfl)
theorem dX0_item_35 : decode cX0_item 35 = .ok (.ifCond .ne 6, 3) := dk_154 0 6 (dk_at dksX0_item_1 11 rfl rfl)
theorem dX0_item_38 : decode cX0_item 38 = .ok (.bipush (-2), 2) := dk_16 254 (dk_at dksX0_item_1 14 rfl rfl)
theorem dX0_item_40 : decode cX0_item 40 = .ok (.ireturn, 1) := dk_172 (dk_at dksX0_item_1 16 rfl rfl)
theorem dX0_item_41 : decode cX0_item 41 = .ok (.iload_n 3, 1) := dk_29 (dk_at dksX0_item_1 17 rfl rfl)
theorem dX0_item_42 : decode cX0_item 42 = .ok (.iconst 2, 1) := dk_5 (dk_at dksX0_item_1 18 rfl rfl)
theorem dX0_item_43 : decode cX0_item 43 = .ok (.if_icmp .ge 31, 3) := dk_162 0 31 (dk_at dksX0_item_1 19 rfl rfl)
theorem dX0_item_46 : decode cX0_item 46 = .ok (.iload_n 3, 1) := dk_29 (dk_at dksX0_item_1 22 rfl rfl)
theorem dX0_item_47 : decode cX0_item 47 = .ok (.ifCond .ne 12, 3) := dk_154 0 12 (dk_at dksX0_item_2 0 rfl rfl)
theorem dX0_item_50 : decode cX0_item 50 = .ok (.aload_n 0, 1) := dk_42 (dk_at dksX0_item_2 3 rfl rfl)
theorem dX0_item_51 : decode cX0_item 51 = .ok (.getfield 20, 3) := dk_180 0 20 (dk_at dksX0_item_2 4 rfl rfl)
theorem dX0_item_54 : decode cX0_item 54 = .ok (.iload_n 2, 1) := dk_28 (dk_at dksX0_item_2 7 rfl rfl)
theorem dX0_item_55 : decode cX0_item 55 = .ok (.iaload, 1) := dk_46 (dk_at dksX0_item_2 8 rfl rfl)
theorem dX0_item_56 : decode cX0_item 56 = .ok (.goto 17, 3) := dk_167 0 17 (dk_at dksX0_item_2 9 rfl rfl)
theorem dX0_item_59 : decode cX0_item 59 = .ok (.aload_n 0, 1) := dk_42 (dk_at dksX0_item_2 12 rfl rfl)
theorem dX0_item_60 : decode cX0_item 60 = .ok (.getfield 27, 3) := dk_180 0 27 (dk_at dksX0_item_2 13 rfl rfl)
theorem dX0_item_63 : decode cX0_item 63 = .ok (.iload_n 2, 1) := dk_28 (dk_at dksX0_item_2 16 rfl rfl)
theorem dX0_item_64 : decode cX0_item 64 = .ok (.baload, 1) := dk_51 (dk_at dksX0_item_2 17 rfl rfl)
theorem dX0_item_65 : decode cX0_item 65 = .ok (.ifCond .eq 7, 3) := dk_153 0 7 (dk_at dksX0_item_2 18 rfl rfl)
theorem dX0_item_68 : decode cX0_item 68 = .ok (.iconst 1, 1) := dk_4 (dk_at dksX0_item_2 21 rfl rfl)
theorem dX0_item_69 : decode cX0_item 69 = .ok (.goto 4, 3) := dk_167 0 4 (dk_at dksX0_item_3 0 rfl rfl)
theorem dX0_item_72 : decode cX0_item 72 = .ok (.iconst 0, 1) := dk_3 (dk_at dksX0_item_3 3 rfl rfl)
theorem dX0_item_73 : decode cX0_item 73 = .ok (.ireturn, 1) := dk_172 (dk_at dksX0_item_3 4 rfl rfl)
theorem dX0_item_74 : decode cX0_item 74 = .ok (.aload_n 0, 1) := dk_42 (dk_at dksX0_item_3 5 rfl rfl)
theorem dX0_item_75 : decode cX0_item 75 = .ok (.invokevirtual 241, 3) := dk_182 0 241 (dk_at dksX0_item_3 6 rfl rfl)
theorem dX0_item_78 : decode cX0_item 78 = .ok (.aload_n 0, 1) := dk_42 (dk_at dksX0_item_3 9 rfl rfl)
theorem dX0_item_79 : decode cX0_item 79 = .ok (.getfield 214, 3) := dk_180 0 214 (dk_at dksX0_item_3 10 rfl rfl)
theorem dX0_item_82 : decode cX0_item 82 = .ok (.iconst 1, 1) := dk_4 (dk_at dksX0_item_3 13 rfl rfl)
theorem dX0_item_83 : decode cX0_item 83 = .ok (.isub, 1) := dk_100 (dk_at dksX0_item_3 14 rfl rfl)
theorem dX0_item_84 : decode cX0_item 84 = .ok (.istore 4, 2) := dk_54 4 (dk_at dksX0_item_3 15 rfl rfl)
theorem dX0_item_86 : decode cX0_item 86 = .ok (.aload_n 0, 1) := dk_42 (dk_at dksX0_item_3 17 rfl rfl)
theorem dX0_item_87 : decode cX0_item 87 = .ok (.getfield 24, 3) := dk_180 0 24 (dk_at dksX0_item_3 18 rfl rfl)
theorem dX0_item_90 : decode cX0_item 90 = .ok (.iload 4, 2) := dk_21 4 (dk_at dksX0_item_3 21 rfl rfl)
theorem dX0_item_92 : decode cX0_item 92 = .ok (.iaload, 1) := dk_46 (dk_at dksX0_item_3 23 rfl rfl)
theorem dX0_item_93 : decode cX0_item 93 = .ok (.iload_n 2, 1) := dk_28 (dk_at dksX0_item_4 0 rfl rfl)
theorem dX0_item_94 : decode cX0_item 94 = .ok (.if_icmp .le 9, 3) := dk_164 0 9 (dk_at dksX0_item_4 1 rfl rfl)
theorem dX0_item_97 : decode cX0_item 97 = .ok (.iinc 4 (-1), 3) := dk_132 4 255 (dk_at dksX0_item_4 4 rfl rfl)
theorem dX0_item_100 : decode cX0_item 100 = .ok (.goto (-14), 3) := dk_167 255 242 (dk_at dksX0_item_4 7 rfl rfl)
theorem dX0_item_103 : decode cX0_item 103 = .ok (.iload 4, 2) := dk_21 4 (dk_at dksX0_item_4 10 rfl rfl)
theorem dX0_item_105 : decode cX0_item 105 = .ok (.ireturn, 1) := dk_172 (dk_at dksX0_item_4 12 rfl rfl)
abbrev cX0_dutyCount : ByteArray := prog_1_method_49_code
def yX0_dutyCount : MethodName := ⟨RX0, "dutyCount", "(I)I"⟩
def dkwX0_dutyCount_0 : List UInt8 := [42, 27, 182, 1, 14, 154, 0, 5, 2, 172, 42, 27, 182, 1, 0, 42, 182, 0, 241, 42, 180, 0, 214, 172]
abbrev dktX0_dutyCount_0 : List UInt8 := dkwX0_dutyCount_0 ++ []
theorem dksX0_dutyCount_0 : cX0_dutyCount.data.toList.drop 0 = dktX0_dutyCount_0 := by decide +kernel
theorem dX0_dutyCount_0 : decode cX0_dutyCount 0 = .ok (.aload_n 0, 1) := dk_42 (dk_at dksX0_dutyCount_0 0 rfl rfl)
theorem dX0_dutyCount_1 : decode cX0_dutyCount 1 = .ok (.iload_n 1, 1) := dk_27 (dk_at dksX0_dutyCount_0 1 rfl rfl)
theorem dX0_dutyCount_2 : decode cX0_dutyCount 2 = .ok (.invokevirtual 270, 3) := dk_182 1 14 (dk_at dksX0_dutyCount_0 2 rfl rfl)
theorem dX0_dutyCount_5 : decode cX0_dutyCount 5 = .ok (.ifCond .ne 5, 3) := dk_154 0 5 (dk_at dksX0_dutyCount_0 5 rfl rfl)
theorem dX0_dutyCount_8 : decode cX0_dutyCount 8 = .ok (.iconst (-1), 1) := dk_2 (dk_at dksX0_dutyCount_0 8 rfl rfl)
theorem dX0_dutyCount_9 : decode cX0_dutyCount 9 = .ok (.ireturn, 1) := dk_172 (dk_at dksX0_dutyCount_0 9 rfl rfl)
theorem dX0_dutyCount_10 : decode cX0_dutyCount 10 = .ok (.aload_n 0, 1) := dk_42 (dk_at dksX0_dutyCount_0 10 rfl rfl)
theorem dX0_dutyCount_11 : decode cX0_dutyCount 11 = .ok (.iload_n 1, 1) := dk_27 (dk_at dksX0_dutyCount_0 11 rfl rfl)
theorem dX0_dutyCount_12 : decode cX0_dutyCount 12 = .ok (.invokevirtual 256, 3) := dk_182 1 0 (dk_at dksX0_dutyCount_0 12 rfl rfl)
theorem dX0_dutyCount_15 : decode cX0_dutyCount 15 = .ok (.aload_n 0, 1) := dk_42 (dk_at dksX0_dutyCount_0 15 rfl rfl)
theorem dX0_dutyCount_16 : decode cX0_dutyCount 16 = .ok (.invokevirtual 241, 3) := dk_182 0 241 (dk_at dksX0_dutyCount_0 16 rfl rfl)
theorem dX0_dutyCount_19 : decode cX0_dutyCount 19 = .ok (.aload_n 0, 1) := dk_42 (dk_at dksX0_dutyCount_0 19 rfl rfl)
theorem dX0_dutyCount_20 : decode cX0_dutyCount 20 = .ok (.getfield 214, 3) := dk_180 0 214 (dk_at dksX0_dutyCount_0 20 rfl rfl)
theorem dX0_dutyCount_23 : decode cX0_dutyCount 23 = .ok (.ireturn, 1) := dk_172 (dk_at dksX0_dutyCount_0 23 rfl rfl)
abbrev cX0_duty : ByteArray := prog_1_method_50_code
def yX0_duty : MethodName := ⟨RX0, "duty", "(III)I"⟩
def dkwX0_duty_4 : List UInt8 := [180, 0, 24, 28, 46, 100, 167, 0, 9, 42, 180, 0, 24, 28, 46, 172]
abbrev dktX0_duty_4 : List UInt8 := dkwX0_duty_4 ++ []
def dkwX0_duty_3 : List UInt8 := [42, 28, 182, 0, 232, 167, 0, 32, 42, 28, 182, 0, 235, 167, 0, 24, 42, 28, 182, 0, 220, 42]
abbrev dktX0_duty_3 : List UInt8 := dkwX0_duty_3 ++ dktX0_duty_4
def dkwX0_duty_2 : List UInt8 := [170, 0, 0, 0, 0, 57, 0, 0, 0, 0, 0, 0, 0, 2, 0, 0, 0, 26, 0, 0, 0, 34, 0, 0, 0, 42]
abbrev dktX0_duty_2 : List UInt8 := dkwX0_duty_2 ++ dktX0_duty_3
def dkwX0_duty_1 : List UInt8 := [42, 182, 0, 241, 28, 3, 42, 180, 0, 214, 4, 100, 184, 0, 72, 154, 0, 6, 16, 254, 172, 29]
abbrev dktX0_duty_1 : List UInt8 := dkwX0_duty_1 ++ dktX0_duty_2
def dkwX0_duty_0 : List UInt8 := [42, 27, 182, 1, 14, 153, 0, 12, 29, 3, 6, 184, 0, 72, 154, 0, 5, 2, 172, 42, 27, 182, 1, 0]
abbrev dktX0_duty_0 : List UInt8 := dkwX0_duty_0 ++ dktX0_duty_1
theorem dksX0_duty_0 : cX0_duty.data.toList.drop 0 = dktX0_duty_0 := by decide +kernel
theorem dksX0_duty_1 : cX0_duty.data.toList.drop 24 = dktX0_duty_1 := dk_seg dksX0_duty_0 24 rfl rfl
theorem dksX0_duty_2 : cX0_duty.data.toList.drop 46 = dktX0_duty_2 := dk_seg dksX0_duty_1 22 rfl rfl
theorem dksX0_duty_3 : cX0_duty.data.toList.drop 72 = dktX0_duty_3 := dk_seg dksX0_duty_2 26 rfl rfl
theorem dksX0_duty_4 : cX0_duty.data.toList.drop 94 = dktX0_duty_4 := dk_seg dksX0_duty_3 22 rfl rfl
theorem dX0_duty_0 : decode cX0_duty 0 = .ok (.aload_n 0, 1) := dk_42 (dk_at dksX0_duty_0 0 rfl rfl)
theorem dX0_duty_1 : decode cX0_duty 1 = .ok (.iload_n 1, 1) := dk_27 (dk_at dksX0_duty_0 1 rfl rfl)
theorem dX0_duty_2 : decode cX0_duty 2 = .ok (.invokevirtual 270, 3) := dk_182 1 14 (dk_at dksX0_duty_0 2 rfl rfl)
theorem dX0_duty_5 : decode cX0_duty 5 = .ok (.ifCond .eq 12, 3) := dk_153 0 12 (dk_at dksX0_duty_0 5 rfl rfl)
theorem dX0_duty_8 : decode cX0_duty 8 = .ok (.iload_n 3, 1) := dk_29 (dk_at dksX0_duty_0 8 rfl rfl)
theorem dX0_duty_9 : decode cX0_duty 9 = .ok (.iconst 0, 1) := dk_3 (dk_at dksX0_duty_0 9 rfl rfl)
theorem dX0_duty_10 : decode cX0_duty 10 = .ok (.iconst 3, 1) := dk_6 (dk_at dksX0_duty_0 10 rfl rfl)
theorem dX0_duty_11 : decode cX0_duty 11 = .ok (.invokestatic 72, 3) := dk_184 0 72 (dk_at dksX0_duty_0 11 rfl rfl)
theorem dX0_duty_14 : decode cX0_duty 14 = .ok (.ifCond .ne 5, 3) := dk_154 0 5 (dk_at dksX0_duty_0 14 rfl rfl)
theorem dX0_duty_17 : decode cX0_duty 17 = .ok (.iconst (-1), 1) := dk_2 (dk_at dksX0_duty_0 17 rfl rfl)
theorem dX0_duty_18 : decode cX0_duty 18 = .ok (.ireturn, 1) := dk_172 (dk_at dksX0_duty_0 18 rfl rfl)
theorem dX0_duty_19 : decode cX0_duty 19 = .ok (.aload_n 0, 1) := dk_42 (dk_at dksX0_duty_0 19 rfl rfl)
theorem dX0_duty_20 : decode cX0_duty 20 = .ok (.iload_n 1, 1) := dk_27 (dk_at dksX0_duty_0 20 rfl rfl)
theorem dX0_duty_21 : decode cX0_duty 21 = .ok (.invokevirtual 256, 3) := dk_182 1 0 (dk_at dksX0_duty_0 21 rfl rfl)
theorem dX0_duty_24 : decode cX0_duty 24 = .ok (.aload_n 0, 1) := dk_42 (dk_at dksX0_duty_1 0 rfl rfl)
theorem dX0_duty_25 : decode cX0_duty 25 = .ok (.invokevirtual 241, 3) := dk_182 0 241 (dk_at dksX0_duty_1 1 rfl rfl)
theorem dX0_duty_28 : decode cX0_duty 28 = .ok (.iload_n 2, 1) := dk_28 (dk_at dksX0_duty_1 4 rfl rfl)
theorem dX0_duty_29 : decode cX0_duty 29 = .ok (.iconst 0, 1) := dk_3 (dk_at dksX0_duty_1 5 rfl rfl)
theorem dX0_duty_30 : decode cX0_duty 30 = .ok (.aload_n 0, 1) := dk_42 (dk_at dksX0_duty_1 6 rfl rfl)
theorem dX0_duty_31 : decode cX0_duty 31 = .ok (.getfield 214, 3) := dk_180 0 214 (dk_at dksX0_duty_1 7 rfl rfl)
theorem dX0_duty_34 : decode cX0_duty 34 = .ok (.iconst 1, 1) := dk_4 (dk_at dksX0_duty_1 10 rfl rfl)
theorem dX0_duty_35 : decode cX0_duty 35 = .ok (.isub, 1) := dk_100 (dk_at dksX0_duty_1 11 rfl rfl)
theorem dX0_duty_36 : decode cX0_duty 36 = .ok (.invokestatic 72, 3) := dk_184 0 72 (dk_at dksX0_duty_1 12 rfl rfl)
theorem dX0_duty_39 : decode cX0_duty 39 = .ok (.ifCond .ne 6, 3) := dk_154 0 6 (dk_at dksX0_duty_1 15 rfl rfl)
theorem dX0_duty_42 : decode cX0_duty 42 = .ok (.bipush (-2), 2) := dk_16 254 (dk_at dksX0_duty_1 18 rfl rfl)
theorem dX0_duty_44 : decode cX0_duty 44 = .ok (.ireturn, 1) := dk_172 (dk_at dksX0_duty_1 20 rfl rfl)
theorem dX0_duty_45 : decode cX0_duty 45 = .ok (.iload_n 3, 1) := dk_29 (dk_at dksX0_duty_1 21 rfl rfl)
theorem dX0_duty_46 : decode cX0_duty 46 = .ok (.tableswitch 57 0 2 #[26, 34, 42], 26) := by decide +kernel
theorem dX0_duty_72 : decode cX0_duty 72 = .ok (.aload_n 0, 1) := dk_42 (dk_at dksX0_duty_3 0 rfl rfl)
theorem dX0_duty_73 : decode cX0_duty 73 = .ok (.iload_n 2, 1) := dk_28 (dk_at dksX0_duty_3 1 rfl rfl)
theorem dX0_duty_74 : decode cX0_duty 74 = .ok (.invokevirtual 232, 3) := dk_182 0 232 (dk_at dksX0_duty_3 2 rfl rfl)
theorem dX0_duty_77 : decode cX0_duty 77 = .ok (.goto 32, 3) := dk_167 0 32 (dk_at dksX0_duty_3 5 rfl rfl)
theorem dX0_duty_80 : decode cX0_duty 80 = .ok (.aload_n 0, 1) := dk_42 (dk_at dksX0_duty_3 8 rfl rfl)
theorem dX0_duty_81 : decode cX0_duty 81 = .ok (.iload_n 2, 1) := dk_28 (dk_at dksX0_duty_3 9 rfl rfl)
theorem dX0_duty_82 : decode cX0_duty 82 = .ok (.invokevirtual 235, 3) := dk_182 0 235 (dk_at dksX0_duty_3 10 rfl rfl)
theorem dX0_duty_85 : decode cX0_duty 85 = .ok (.goto 24, 3) := dk_167 0 24 (dk_at dksX0_duty_3 13 rfl rfl)
theorem dX0_duty_88 : decode cX0_duty 88 = .ok (.aload_n 0, 1) := dk_42 (dk_at dksX0_duty_3 16 rfl rfl)
theorem dX0_duty_89 : decode cX0_duty 89 = .ok (.iload_n 2, 1) := dk_28 (dk_at dksX0_duty_3 17 rfl rfl)
theorem dX0_duty_90 : decode cX0_duty 90 = .ok (.invokevirtual 220, 3) := dk_182 0 220 (dk_at dksX0_duty_3 18 rfl rfl)
theorem dX0_duty_93 : decode cX0_duty 93 = .ok (.aload_n 0, 1) := dk_42 (dk_at dksX0_duty_3 21 rfl rfl)
theorem dX0_duty_94 : decode cX0_duty 94 = .ok (.getfield 24, 3) := dk_180 0 24 (dk_at dksX0_duty_4 0 rfl rfl)
theorem dX0_duty_97 : decode cX0_duty 97 = .ok (.iload_n 2, 1) := dk_28 (dk_at dksX0_duty_4 3 rfl rfl)
theorem dX0_duty_98 : decode cX0_duty 98 = .ok (.iaload, 1) := dk_46 (dk_at dksX0_duty_4 4 rfl rfl)
theorem dX0_duty_99 : decode cX0_duty 99 = .ok (.isub, 1) := dk_100 (dk_at dksX0_duty_4 5 rfl rfl)
theorem dX0_duty_100 : decode cX0_duty 100 = .ok (.goto 9, 3) := dk_167 0 9 (dk_at dksX0_duty_4 6 rfl rfl)
theorem dX0_duty_103 : decode cX0_duty 103 = .ok (.aload_n 0, 1) := dk_42 (dk_at dksX0_duty_4 9 rfl rfl)
theorem dX0_duty_104 : decode cX0_duty 104 = .ok (.getfield 24, 3) := dk_180 0 24 (dk_at dksX0_duty_4 10 rfl rfl)
theorem dX0_duty_107 : decode cX0_duty 107 = .ok (.iload_n 2, 1) := dk_28 (dk_at dksX0_duty_4 13 rfl rfl)
theorem dX0_duty_108 : decode cX0_duty 108 = .ok (.iaload, 1) := dk_46 (dk_at dksX0_duty_4 14 rfl rfl)
theorem dX0_duty_109 : decode cX0_duty 109 = .ok (.ireturn, 1) := dk_172 (dk_at dksX0_duty_4 15 rfl rfl)
abbrev cX0_violationCount : ByteArray := prog_1_method_52_code
def yX0_violationCount : MethodName := ⟨RX0, "violationCount", "(I)I"⟩
def dkwX0_violationCount_0 : List UInt8 := [42, 27, 182, 1, 14, 153, 0, 11, 42, 27, 182, 1, 30, 167, 0, 4, 2, 172]
abbrev dktX0_violationCount_0 : List UInt8 := dkwX0_violationCount_0 ++ []
theorem dksX0_violationCount_0 : cX0_violationCount.data.toList.drop 0 = dktX0_violationCount_0 := by decide +kernel
theorem dX0_violationCount_0 : decode cX0_violationCount 0 = .ok (.aload_n 0, 1) := dk_42 (dk_at dksX0_violationCount_0 0 rfl rfl)
theorem dX0_violationCount_1 : decode cX0_violationCount 1 = .ok (.iload_n 1, 1) := dk_27 (dk_at dksX0_violationCount_0 1 rfl rfl)
theorem dX0_violationCount_2 : decode cX0_violationCount 2 = .ok (.invokevirtual 270, 3) := dk_182 1 14 (dk_at dksX0_violationCount_0 2 rfl rfl)
theorem dX0_violationCount_5 : decode cX0_violationCount 5 = .ok (.ifCond .eq 11, 3) := dk_153 0 11 (dk_at dksX0_violationCount_0 5 rfl rfl)
theorem dX0_violationCount_8 : decode cX0_violationCount 8 = .ok (.aload_n 0, 1) := dk_42 (dk_at dksX0_violationCount_0 8 rfl rfl)
theorem dX0_violationCount_9 : decode cX0_violationCount 9 = .ok (.iload_n 1, 1) := dk_27 (dk_at dksX0_violationCount_0 9 rfl rfl)
theorem dX0_violationCount_10 : decode cX0_violationCount 10 = .ok (.invokevirtual 286, 3) := dk_182 1 30 (dk_at dksX0_violationCount_0 10 rfl rfl)
theorem dX0_violationCount_13 : decode cX0_violationCount 13 = .ok (.goto 4, 3) := dk_167 0 4 (dk_at dksX0_violationCount_0 13 rfl rfl)
theorem dX0_violationCount_16 : decode cX0_violationCount 16 = .ok (.iconst (-1), 1) := dk_2 (dk_at dksX0_violationCount_0 16 rfl rfl)
theorem dX0_violationCount_17 : decode cX0_violationCount 17 = .ok (.ireturn, 1) := dk_172 (dk_at dksX0_violationCount_0 17 rfl rfl)
abbrev cX0_violationsOf : ByteArray := prog_1_method_51_code
def yX0_violationsOf : MethodName := ⟨RX0, "violationsOf", "(I)I"⟩
def dkwX0_violationsOf_0 : List UInt8 := [42, 27, 182, 1, 0, 42, 2, 182, 0, 253, 172]
abbrev dktX0_violationsOf_0 : List UInt8 := dkwX0_violationsOf_0 ++ []
theorem dksX0_violationsOf_0 : cX0_violationsOf.data.toList.drop 0 = dktX0_violationsOf_0 := by decide +kernel
theorem dX0_violationsOf_0 : decode cX0_violationsOf 0 = .ok (.aload_n 0, 1) := dk_42 (dk_at dksX0_violationsOf_0 0 rfl rfl)
theorem dX0_violationsOf_1 : decode cX0_violationsOf 1 = .ok (.iload_n 1, 1) := dk_27 (dk_at dksX0_violationsOf_0 1 rfl rfl)
theorem dX0_violationsOf_2 : decode cX0_violationsOf 2 = .ok (.invokevirtual 256, 3) := dk_182 1 0 (dk_at dksX0_violationsOf_0 2 rfl rfl)
theorem dX0_violationsOf_5 : decode cX0_violationsOf 5 = .ok (.aload_n 0, 1) := dk_42 (dk_at dksX0_violationsOf_0 5 rfl rfl)
theorem dX0_violationsOf_6 : decode cX0_violationsOf 6 = .ok (.iconst (-1), 1) := dk_2 (dk_at dksX0_violationsOf_0 6 rfl rfl)
theorem dX0_violationsOf_7 : decode cX0_violationsOf 7 = .ok (.invokevirtual 253, 3) := dk_182 0 253 (dk_at dksX0_violationsOf_0 7 rfl rfl)
theorem dX0_violationsOf_10 : decode cX0_violationsOf 10 = .ok (.ireturn, 1) := dk_172 (dk_at dksX0_violationsOf_0 10 rfl rfl)
abbrev cX0_violation : ByteArray := prog_1_method_53_code
def yX0_violation : MethodName := ⟨RX0, "violation", "(III)I"⟩
def dkwX0_violation_2 : List UInt8 := [42, 180, 0, 247, 167, 0, 7, 42, 180, 0, 250, 172]
abbrev dktX0_violation_2 : List UInt8 := dkwX0_violation_2 ++ []
def dkwX0_violation_1 : List UInt8 := [182, 1, 30, 4, 100, 184, 0, 72, 154, 0, 6, 16, 254, 172, 42, 28, 182, 0, 253, 87, 29, 154, 0, 10]
abbrev dktX0_violation_1 : List UInt8 := dkwX0_violation_1 ++ dktX0_violation_2
def dkwX0_violation_0 : List UInt8 := [42, 27, 182, 1, 14, 153, 0, 12, 29, 3, 4, 184, 0, 72, 154, 0, 5, 2, 172, 28, 3, 42, 27]
abbrev dktX0_violation_0 : List UInt8 := dkwX0_violation_0 ++ dktX0_violation_1
theorem dksX0_violation_0 : cX0_violation.data.toList.drop 0 = dktX0_violation_0 := by decide +kernel
theorem dksX0_violation_1 : cX0_violation.data.toList.drop 23 = dktX0_violation_1 := dk_seg dksX0_violation_0 23 rfl rfl
theorem dksX0_violation_2 : cX0_violation.data.toList.drop 47 = dktX0_violation_2 := dk_seg dksX0_violation_1 24 rfl rfl
theorem dX0_violation_0 : decode cX0_violation 0 = .ok (.aload_n 0, 1) := dk_42 (dk_at dksX0_violation_0 0 rfl rfl)
theorem dX0_violation_1 : decode cX0_violation 1 = .ok (.iload_n 1, 1) := dk_27 (dk_at dksX0_violation_0 1 rfl rfl)
theorem dX0_violation_2 : decode cX0_violation 2 = .ok (.invokevirtual 270, 3) := dk_182 1 14 (dk_at dksX0_violation_0 2 rfl rfl)
theorem dX0_violation_5 : decode cX0_violation 5 = .ok (.ifCond .eq 12, 3) := dk_153 0 12 (dk_at dksX0_violation_0 5 rfl rfl)
theorem dX0_violation_8 : decode cX0_violation 8 = .ok (.iload_n 3, 1) := dk_29 (dk_at dksX0_violation_0 8 rfl rfl)
theorem dX0_violation_9 : decode cX0_violation 9 = .ok (.iconst 0, 1) := dk_3 (dk_at dksX0_violation_0 9 rfl rfl)
theorem dX0_violation_10 : decode cX0_violation 10 = .ok (.iconst 1, 1) := dk_4 (dk_at dksX0_violation_0 10 rfl rfl)
theorem dX0_violation_11 : decode cX0_violation 11 = .ok (.invokestatic 72, 3) := dk_184 0 72 (dk_at dksX0_violation_0 11 rfl rfl)
theorem dX0_violation_14 : decode cX0_violation 14 = .ok (.ifCond .ne 5, 3) := dk_154 0 5 (dk_at dksX0_violation_0 14 rfl rfl)
theorem dX0_violation_17 : decode cX0_violation 17 = .ok (.iconst (-1), 1) := dk_2 (dk_at dksX0_violation_0 17 rfl rfl)
theorem dX0_violation_18 : decode cX0_violation 18 = .ok (.ireturn, 1) := dk_172 (dk_at dksX0_violation_0 18 rfl rfl)
theorem dX0_violation_19 : decode cX0_violation 19 = .ok (.iload_n 2, 1) := dk_28 (dk_at dksX0_violation_0 19 rfl rfl)
theorem dX0_violation_20 : decode cX0_violation 20 = .ok (.iconst 0, 1) := dk_3 (dk_at dksX0_violation_0 20 rfl rfl)
theorem dX0_violation_21 : decode cX0_violation 21 = .ok (.aload_n 0, 1) := dk_42 (dk_at dksX0_violation_0 21 rfl rfl)
theorem dX0_violation_22 : decode cX0_violation 22 = .ok (.iload_n 1, 1) := dk_27 (dk_at dksX0_violation_0 22 rfl rfl)
theorem dX0_violation_23 : decode cX0_violation 23 = .ok (.invokevirtual 286, 3) := dk_182 1 30 (dk_at dksX0_violation_1 0 rfl rfl)
theorem dX0_violation_26 : decode cX0_violation 26 = .ok (.iconst 1, 1) := dk_4 (dk_at dksX0_violation_1 3 rfl rfl)
theorem dX0_violation_27 : decode cX0_violation 27 = .ok (.isub, 1) := dk_100 (dk_at dksX0_violation_1 4 rfl rfl)
theorem dX0_violation_28 : decode cX0_violation 28 = .ok (.invokestatic 72, 3) := dk_184 0 72 (dk_at dksX0_violation_1 5 rfl rfl)
theorem dX0_violation_31 : decode cX0_violation 31 = .ok (.ifCond .ne 6, 3) := dk_154 0 6 (dk_at dksX0_violation_1 8 rfl rfl)
theorem dX0_violation_34 : decode cX0_violation 34 = .ok (.bipush (-2), 2) := dk_16 254 (dk_at dksX0_violation_1 11 rfl rfl)
theorem dX0_violation_36 : decode cX0_violation 36 = .ok (.ireturn, 1) := dk_172 (dk_at dksX0_violation_1 13 rfl rfl)
theorem dX0_violation_37 : decode cX0_violation 37 = .ok (.aload_n 0, 1) := dk_42 (dk_at dksX0_violation_1 14 rfl rfl)
theorem dX0_violation_38 : decode cX0_violation 38 = .ok (.iload_n 2, 1) := dk_28 (dk_at dksX0_violation_1 15 rfl rfl)
theorem dX0_violation_39 : decode cX0_violation 39 = .ok (.invokevirtual 253, 3) := dk_182 0 253 (dk_at dksX0_violation_1 16 rfl rfl)
theorem dX0_violation_42 : decode cX0_violation 42 = .ok (.pop, 1) := dk_87 (dk_at dksX0_violation_1 19 rfl rfl)
theorem dX0_violation_43 : decode cX0_violation 43 = .ok (.iload_n 3, 1) := dk_29 (dk_at dksX0_violation_1 20 rfl rfl)
theorem dX0_violation_44 : decode cX0_violation 44 = .ok (.ifCond .ne 10, 3) := dk_154 0 10 (dk_at dksX0_violation_1 21 rfl rfl)
theorem dX0_violation_47 : decode cX0_violation 47 = .ok (.aload_n 0, 1) := dk_42 (dk_at dksX0_violation_2 0 rfl rfl)
theorem dX0_violation_48 : decode cX0_violation 48 = .ok (.getfield 247, 3) := dk_180 0 247 (dk_at dksX0_violation_2 1 rfl rfl)
theorem dX0_violation_51 : decode cX0_violation 51 = .ok (.goto 7, 3) := dk_167 0 7 (dk_at dksX0_violation_2 4 rfl rfl)
theorem dX0_violation_54 : decode cX0_violation 54 = .ok (.aload_n 0, 1) := dk_42 (dk_at dksX0_violation_2 7 rfl rfl)
theorem dX0_violation_55 : decode cX0_violation 55 = .ok (.getfield 250, 3) := dk_180 0 250 (dk_at dksX0_violation_2 8 rfl rfl)
theorem dX0_violation_58 : decode cX0_violation 58 = .ok (.ireturn, 1) := dk_172 (dk_at dksX0_violation_2 11 rfl rfl)
abbrev cX0_minutes : ByteArray := prog_1_method_55_code
def yX0_minutes : MethodName := ⟨RX0, "minutes", "(I)I"⟩
def dkwX0_minutes_0 : List UInt8 := [42, 27, 182, 1, 14, 153, 0, 11, 42, 27, 182, 1, 33, 167, 0, 4, 2, 172]
abbrev dktX0_minutes_0 : List UInt8 := dkwX0_minutes_0 ++ []
theorem dksX0_minutes_0 : cX0_minutes.data.toList.drop 0 = dktX0_minutes_0 := by decide +kernel
theorem dX0_minutes_0 : decode cX0_minutes 0 = .ok (.aload_n 0, 1) := dk_42 (dk_at dksX0_minutes_0 0 rfl rfl)
theorem dX0_minutes_1 : decode cX0_minutes 1 = .ok (.iload_n 1, 1) := dk_27 (dk_at dksX0_minutes_0 1 rfl rfl)
theorem dX0_minutes_2 : decode cX0_minutes 2 = .ok (.invokevirtual 270, 3) := dk_182 1 14 (dk_at dksX0_minutes_0 2 rfl rfl)
theorem dX0_minutes_5 : decode cX0_minutes 5 = .ok (.ifCond .eq 11, 3) := dk_153 0 11 (dk_at dksX0_minutes_0 5 rfl rfl)
theorem dX0_minutes_8 : decode cX0_minutes 8 = .ok (.aload_n 0, 1) := dk_42 (dk_at dksX0_minutes_0 8 rfl rfl)
theorem dX0_minutes_9 : decode cX0_minutes 9 = .ok (.iload_n 1, 1) := dk_27 (dk_at dksX0_minutes_0 9 rfl rfl)
theorem dX0_minutes_10 : decode cX0_minutes 10 = .ok (.invokevirtual 289, 3) := dk_182 1 33 (dk_at dksX0_minutes_0 10 rfl rfl)
theorem dX0_minutes_13 : decode cX0_minutes 13 = .ok (.goto 4, 3) := dk_167 0 4 (dk_at dksX0_minutes_0 13 rfl rfl)
theorem dX0_minutes_16 : decode cX0_minutes 16 = .ok (.iconst (-1), 1) := dk_2 (dk_at dksX0_minutes_0 16 rfl rfl)
theorem dX0_minutes_17 : decode cX0_minutes 17 = .ok (.ireturn, 1) := dk_172 (dk_at dksX0_minutes_0 17 rfl rfl)
abbrev cX0_minutesOf : ByteArray := prog_1_method_54_code
def yX0_minutesOf : MethodName := ⟨RX0, "minutesOf", "(I)I"⟩
def dkwX0_minutesOf_2 : List UInt8 := [172]
abbrev dktX0_minutesOf_2 : List UInt8 := dkwX0_minutesOf_2 ++ []
def dkwX0_minutesOf_1 : List UInt8 := [153, 0, 14, 42, 29, 182, 0, 211, 182, 0, 223, 167, 0, 4, 3, 96, 61, 132, 3, 1, 167, 255, 221, 28]
abbrev dktX0_minutesOf_1 : List UInt8 := dkwX0_minutesOf_1 ++ dktX0_minutesOf_2
def dkwX0_minutesOf_0 : List UInt8 := [42, 27, 182, 1, 0, 3, 61, 3, 62, 29, 42, 180, 0, 202, 162, 0, 33, 28, 42, 180, 0, 27, 29, 51]
abbrev dktX0_minutesOf_0 : List UInt8 := dkwX0_minutesOf_0 ++ dktX0_minutesOf_1
theorem dksX0_minutesOf_0 : cX0_minutesOf.data.toList.drop 0 = dktX0_minutesOf_0 := by decide +kernel
theorem dksX0_minutesOf_1 : cX0_minutesOf.data.toList.drop 24 = dktX0_minutesOf_1 := dk_seg dksX0_minutesOf_0 24 rfl rfl
theorem dksX0_minutesOf_2 : cX0_minutesOf.data.toList.drop 48 = dktX0_minutesOf_2 := dk_seg dksX0_minutesOf_1 24 rfl rfl
theorem dX0_minutesOf_0 : decode cX0_minutesOf 0 = .ok (.aload_n 0, 1) := dk_42 (dk_at dksX0_minutesOf_0 0 rfl rfl)
theorem dX0_minutesOf_1 : decode cX0_minutesOf 1 = .ok (.iload_n 1, 1) := dk_27 (dk_at dksX0_minutesOf_0 1 rfl rfl)
theorem dX0_minutesOf_2 : decode cX0_minutesOf 2 = .ok (.invokevirtual 256, 3) := dk_182 1 0 (dk_at dksX0_minutesOf_0 2 rfl rfl)
theorem dX0_minutesOf_5 : decode cX0_minutesOf 5 = .ok (.iconst 0, 1) := dk_3 (dk_at dksX0_minutesOf_0 5 rfl rfl)
theorem dX0_minutesOf_6 : decode cX0_minutesOf 6 = .ok (.istore_n 2, 1) := dk_61 (dk_at dksX0_minutesOf_0 6 rfl rfl)
theorem dX0_minutesOf_7 : decode cX0_minutesOf 7 = .ok (.iconst 0, 1) := dk_3 (dk_at dksX0_minutesOf_0 7 rfl rfl)
theorem dX0_minutesOf_8 : decode cX0_minutesOf 8 = .ok (.istore_n 3, 1) := dk_62 (dk_at dksX0_minutesOf_0 8 rfl rfl)
theorem dX0_minutesOf_9 : decode cX0_minutesOf 9 = .ok (.iload_n 3, 1) := dk_29 (dk_at dksX0_minutesOf_0 9 rfl rfl)
theorem dX0_minutesOf_10 : decode cX0_minutesOf 10 = .ok (.aload_n 0, 1) := dk_42 (dk_at dksX0_minutesOf_0 10 rfl rfl)
theorem dX0_minutesOf_11 : decode cX0_minutesOf 11 = .ok (.getfield 202, 3) := dk_180 0 202 (dk_at dksX0_minutesOf_0 11 rfl rfl)
theorem dX0_minutesOf_14 : decode cX0_minutesOf 14 = .ok (.if_icmp .ge 33, 3) := dk_162 0 33 (dk_at dksX0_minutesOf_0 14 rfl rfl)
theorem dX0_minutesOf_17 : decode cX0_minutesOf 17 = .ok (.iload_n 2, 1) := dk_28 (dk_at dksX0_minutesOf_0 17 rfl rfl)
theorem dX0_minutesOf_18 : decode cX0_minutesOf 18 = .ok (.aload_n 0, 1) := dk_42 (dk_at dksX0_minutesOf_0 18 rfl rfl)
theorem dX0_minutesOf_19 : decode cX0_minutesOf 19 = .ok (.getfield 27, 3) := dk_180 0 27 (dk_at dksX0_minutesOf_0 19 rfl rfl)
theorem dX0_minutesOf_22 : decode cX0_minutesOf 22 = .ok (.iload_n 3, 1) := dk_29 (dk_at dksX0_minutesOf_0 22 rfl rfl)
theorem dX0_minutesOf_23 : decode cX0_minutesOf 23 = .ok (.baload, 1) := dk_51 (dk_at dksX0_minutesOf_0 23 rfl rfl)
theorem dX0_minutesOf_24 : decode cX0_minutesOf 24 = .ok (.ifCond .eq 14, 3) := dk_153 0 14 (dk_at dksX0_minutesOf_1 0 rfl rfl)
theorem dX0_minutesOf_27 : decode cX0_minutesOf 27 = .ok (.aload_n 0, 1) := dk_42 (dk_at dksX0_minutesOf_1 3 rfl rfl)
theorem dX0_minutesOf_28 : decode cX0_minutesOf 28 = .ok (.iload_n 3, 1) := dk_29 (dk_at dksX0_minutesOf_1 4 rfl rfl)
theorem dX0_minutesOf_29 : decode cX0_minutesOf 29 = .ok (.invokevirtual 211, 3) := dk_182 0 211 (dk_at dksX0_minutesOf_1 5 rfl rfl)
theorem dX0_minutesOf_32 : decode cX0_minutesOf 32 = .ok (.invokevirtual 223, 3) := dk_182 0 223 (dk_at dksX0_minutesOf_1 8 rfl rfl)
theorem dX0_minutesOf_35 : decode cX0_minutesOf 35 = .ok (.goto 4, 3) := dk_167 0 4 (dk_at dksX0_minutesOf_1 11 rfl rfl)
theorem dX0_minutesOf_38 : decode cX0_minutesOf 38 = .ok (.iconst 0, 1) := dk_3 (dk_at dksX0_minutesOf_1 14 rfl rfl)
theorem dX0_minutesOf_39 : decode cX0_minutesOf 39 = .ok (.iadd, 1) := dk_96 (dk_at dksX0_minutesOf_1 15 rfl rfl)
theorem dX0_minutesOf_40 : decode cX0_minutesOf 40 = .ok (.istore_n 2, 1) := dk_61 (dk_at dksX0_minutesOf_1 16 rfl rfl)
theorem dX0_minutesOf_41 : decode cX0_minutesOf 41 = .ok (.iinc 3 1, 3) := dk_132 3 1 (dk_at dksX0_minutesOf_1 17 rfl rfl)
theorem dX0_minutesOf_44 : decode cX0_minutesOf 44 = .ok (.goto (-35), 3) := dk_167 255 221 (dk_at dksX0_minutesOf_1 20 rfl rfl)
theorem dX0_minutesOf_47 : decode cX0_minutesOf 47 = .ok (.iload_n 2, 1) := dk_28 (dk_at dksX0_minutesOf_1 23 rfl rfl)
theorem dX0_minutesOf_48 : decode cX0_minutesOf 48 = .ok (.ireturn, 1) := dk_172 (dk_at dksX0_minutesOf_2 0 rfl rfl)
abbrev cX0_within : ByteArray := prog_1_method_56_code
def yX0_within : MethodName := ⟨RX0, "within", "(III)I"⟩
def dkwX0_within_1 : List UInt8 := [184, 0, 72, 154, 0, 5, 2, 172, 42, 27, 182, 1, 0, 42, 28, 29, 182, 0, 238, 172]
abbrev dktX0_within_1 : List UInt8 := dkwX0_within_1 ++ []
def dkwX0_within_0 : List UInt8 := [42, 27, 182, 1, 14, 153, 0, 25, 28, 3, 17, 23, 111, 184, 0, 72, 153, 0, 14, 29, 4, 17, 23, 112]
abbrev dktX0_within_0 : List UInt8 := dkwX0_within_0 ++ dktX0_within_1
theorem dksX0_within_0 : cX0_within.data.toList.drop 0 = dktX0_within_0 := by decide +kernel
theorem dksX0_within_1 : cX0_within.data.toList.drop 24 = dktX0_within_1 := dk_seg dksX0_within_0 24 rfl rfl
theorem dX0_within_0 : decode cX0_within 0 = .ok (.aload_n 0, 1) := dk_42 (dk_at dksX0_within_0 0 rfl rfl)
theorem dX0_within_1 : decode cX0_within 1 = .ok (.iload_n 1, 1) := dk_27 (dk_at dksX0_within_0 1 rfl rfl)
theorem dX0_within_2 : decode cX0_within 2 = .ok (.invokevirtual 270, 3) := dk_182 1 14 (dk_at dksX0_within_0 2 rfl rfl)
theorem dX0_within_5 : decode cX0_within 5 = .ok (.ifCond .eq 25, 3) := dk_153 0 25 (dk_at dksX0_within_0 5 rfl rfl)
theorem dX0_within_8 : decode cX0_within 8 = .ok (.iload_n 2, 1) := dk_28 (dk_at dksX0_within_0 8 rfl rfl)
theorem dX0_within_9 : decode cX0_within 9 = .ok (.iconst 0, 1) := dk_3 (dk_at dksX0_within_0 9 rfl rfl)
theorem dX0_within_10 : decode cX0_within 10 = .ok (.sipush 5999, 3) := dk_17 23 111 (dk_at dksX0_within_0 10 rfl rfl)
theorem dX0_within_13 : decode cX0_within 13 = .ok (.invokestatic 72, 3) := dk_184 0 72 (dk_at dksX0_within_0 13 rfl rfl)
theorem dX0_within_16 : decode cX0_within 16 = .ok (.ifCond .eq 14, 3) := dk_153 0 14 (dk_at dksX0_within_0 16 rfl rfl)
theorem dX0_within_19 : decode cX0_within 19 = .ok (.iload_n 3, 1) := dk_29 (dk_at dksX0_within_0 19 rfl rfl)
theorem dX0_within_20 : decode cX0_within 20 = .ok (.iconst 1, 1) := dk_4 (dk_at dksX0_within_0 20 rfl rfl)
theorem dX0_within_21 : decode cX0_within 21 = .ok (.sipush 6000, 3) := dk_17 23 112 (dk_at dksX0_within_0 21 rfl rfl)
theorem dX0_within_24 : decode cX0_within 24 = .ok (.invokestatic 72, 3) := dk_184 0 72 (dk_at dksX0_within_1 0 rfl rfl)
theorem dX0_within_27 : decode cX0_within 27 = .ok (.ifCond .ne 5, 3) := dk_154 0 5 (dk_at dksX0_within_1 3 rfl rfl)
theorem dX0_within_30 : decode cX0_within 30 = .ok (.iconst (-1), 1) := dk_2 (dk_at dksX0_within_1 6 rfl rfl)
theorem dX0_within_31 : decode cX0_within 31 = .ok (.ireturn, 1) := dk_172 (dk_at dksX0_within_1 7 rfl rfl)
theorem dX0_within_32 : decode cX0_within 32 = .ok (.aload_n 0, 1) := dk_42 (dk_at dksX0_within_1 8 rfl rfl)
theorem dX0_within_33 : decode cX0_within 33 = .ok (.iload_n 1, 1) := dk_27 (dk_at dksX0_within_1 9 rfl rfl)
theorem dX0_within_34 : decode cX0_within 34 = .ok (.invokevirtual 256, 3) := dk_182 1 0 (dk_at dksX0_within_1 10 rfl rfl)
theorem dX0_within_37 : decode cX0_within 37 = .ok (.aload_n 0, 1) := dk_42 (dk_at dksX0_within_1 13 rfl rfl)
theorem dX0_within_38 : decode cX0_within 38 = .ok (.iload_n 2, 1) := dk_28 (dk_at dksX0_within_1 14 rfl rfl)
theorem dX0_within_39 : decode cX0_within 39 = .ok (.iload_n 3, 1) := dk_29 (dk_at dksX0_within_1 15 rfl rfl)
theorem dX0_within_40 : decode cX0_within 40 = .ok (.invokevirtual 238, 3) := dk_182 0 238 (dk_at dksX0_within_1 16 rfl rfl)
theorem dX0_within_43 : decode cX0_within 43 = .ok (.ireturn, 1) := dk_172 (dk_at dksX0_within_1 19 rfl rfl)
abbrev cX0_home : ByteArray := prog_1_method_58_code
def yX0_home : MethodName := ⟨RX0, "home", "(I)I"⟩
def dkwX0_home_1 : List UInt8 := [167, 0, 4, 3, 172]
abbrev dktX0_home_1 : List UInt8 := dkwX0_home_1 ++ []
def dkwX0_home_0 : List UInt8 := [42, 27, 182, 1, 14, 154, 0, 5, 2, 172, 42, 27, 182, 1, 0, 42, 182, 1, 36, 153, 0, 7, 4]
abbrev dktX0_home_0 : List UInt8 := dkwX0_home_0 ++ dktX0_home_1
theorem dksX0_home_0 : cX0_home.data.toList.drop 0 = dktX0_home_0 := by decide +kernel
theorem dksX0_home_1 : cX0_home.data.toList.drop 23 = dktX0_home_1 := dk_seg dksX0_home_0 23 rfl rfl
theorem dX0_home_0 : decode cX0_home 0 = .ok (.aload_n 0, 1) := dk_42 (dk_at dksX0_home_0 0 rfl rfl)
theorem dX0_home_1 : decode cX0_home 1 = .ok (.iload_n 1, 1) := dk_27 (dk_at dksX0_home_0 1 rfl rfl)
theorem dX0_home_2 : decode cX0_home 2 = .ok (.invokevirtual 270, 3) := dk_182 1 14 (dk_at dksX0_home_0 2 rfl rfl)
theorem dX0_home_5 : decode cX0_home 5 = .ok (.ifCond .ne 5, 3) := dk_154 0 5 (dk_at dksX0_home_0 5 rfl rfl)
theorem dX0_home_8 : decode cX0_home 8 = .ok (.iconst (-1), 1) := dk_2 (dk_at dksX0_home_0 8 rfl rfl)
theorem dX0_home_9 : decode cX0_home 9 = .ok (.ireturn, 1) := dk_172 (dk_at dksX0_home_0 9 rfl rfl)
theorem dX0_home_10 : decode cX0_home 10 = .ok (.aload_n 0, 1) := dk_42 (dk_at dksX0_home_0 10 rfl rfl)
theorem dX0_home_11 : decode cX0_home 11 = .ok (.iload_n 1, 1) := dk_27 (dk_at dksX0_home_0 11 rfl rfl)
theorem dX0_home_12 : decode cX0_home 12 = .ok (.invokevirtual 256, 3) := dk_182 1 0 (dk_at dksX0_home_0 12 rfl rfl)
theorem dX0_home_15 : decode cX0_home 15 = .ok (.aload_n 0, 1) := dk_42 (dk_at dksX0_home_0 15 rfl rfl)
theorem dX0_home_16 : decode cX0_home 16 = .ok (.invokevirtual 292, 3) := dk_182 1 36 (dk_at dksX0_home_0 16 rfl rfl)
theorem dX0_home_19 : decode cX0_home 19 = .ok (.ifCond .eq 7, 3) := dk_153 0 7 (dk_at dksX0_home_0 19 rfl rfl)
theorem dX0_home_22 : decode cX0_home 22 = .ok (.iconst 1, 1) := dk_4 (dk_at dksX0_home_0 22 rfl rfl)
theorem dX0_home_23 : decode cX0_home 23 = .ok (.goto 4, 3) := dk_167 0 4 (dk_at dksX0_home_1 0 rfl rfl)
theorem dX0_home_26 : decode cX0_home 26 = .ok (.iconst 0, 1) := dk_3 (dk_at dksX0_home_1 3 rfl rfl)
theorem dX0_home_27 : decode cX0_home 27 = .ok (.ireturn, 1) := dk_172 (dk_at dksX0_home_1 4 rfl rfl)
abbrev cX0_isRowHome : ByteArray := prog_1_method_57_code
def yX0_isRowHome : MethodName := ⟨RX0, "isRowHome", "()Z"⟩
def dkwX0_isRowHome_1 : List UInt8 := [160, 0, 7, 4, 167, 0, 4, 3, 172]
abbrev dktX0_isRowHome_1 : List UInt8 := dkwX0_isRowHome_1 ++ []
def dkwX0_isRowHome_0 : List UInt8 := [42, 180, 0, 202, 153, 0, 23, 42, 42, 180, 0, 202, 4, 100, 182, 0, 211, 180, 0, 127, 42, 180, 0, 196]
abbrev dktX0_isRowHome_0 : List UInt8 := dkwX0_isRowHome_0 ++ dktX0_isRowHome_1
theorem dksX0_isRowHome_0 : cX0_isRowHome.data.toList.drop 0 = dktX0_isRowHome_0 := by decide +kernel
theorem dksX0_isRowHome_1 : cX0_isRowHome.data.toList.drop 24 = dktX0_isRowHome_1 := dk_seg dksX0_isRowHome_0 24 rfl rfl
theorem dX0_isRowHome_0 : decode cX0_isRowHome 0 = .ok (.aload_n 0, 1) := dk_42 (dk_at dksX0_isRowHome_0 0 rfl rfl)
theorem dX0_isRowHome_1 : decode cX0_isRowHome 1 = .ok (.getfield 202, 3) := dk_180 0 202 (dk_at dksX0_isRowHome_0 1 rfl rfl)
theorem dX0_isRowHome_4 : decode cX0_isRowHome 4 = .ok (.ifCond .eq 23, 3) := dk_153 0 23 (dk_at dksX0_isRowHome_0 4 rfl rfl)
theorem dX0_isRowHome_7 : decode cX0_isRowHome 7 = .ok (.aload_n 0, 1) := dk_42 (dk_at dksX0_isRowHome_0 7 rfl rfl)
theorem dX0_isRowHome_8 : decode cX0_isRowHome 8 = .ok (.aload_n 0, 1) := dk_42 (dk_at dksX0_isRowHome_0 8 rfl rfl)
theorem dX0_isRowHome_9 : decode cX0_isRowHome 9 = .ok (.getfield 202, 3) := dk_180 0 202 (dk_at dksX0_isRowHome_0 9 rfl rfl)
theorem dX0_isRowHome_12 : decode cX0_isRowHome 12 = .ok (.iconst 1, 1) := dk_4 (dk_at dksX0_isRowHome_0 12 rfl rfl)
theorem dX0_isRowHome_13 : decode cX0_isRowHome 13 = .ok (.isub, 1) := dk_100 (dk_at dksX0_isRowHome_0 13 rfl rfl)
theorem dX0_isRowHome_14 : decode cX0_isRowHome 14 = .ok (.invokevirtual 211, 3) := dk_182 0 211 (dk_at dksX0_isRowHome_0 14 rfl rfl)
theorem dX0_isRowHome_17 : decode cX0_isRowHome 17 = .ok (.getfield 127, 3) := dk_180 0 127 (dk_at dksX0_isRowHome_0 17 rfl rfl)
theorem dX0_isRowHome_20 : decode cX0_isRowHome 20 = .ok (.aload_n 0, 1) := dk_42 (dk_at dksX0_isRowHome_0 20 rfl rfl)
theorem dX0_isRowHome_21 : decode cX0_isRowHome 21 = .ok (.getfield 196, 3) := dk_180 0 196 (dk_at dksX0_isRowHome_0 21 rfl rfl)
theorem dX0_isRowHome_24 : decode cX0_isRowHome 24 = .ok (.if_icmp .ne 7, 3) := dk_160 0 7 (dk_at dksX0_isRowHome_1 0 rfl rfl)
theorem dX0_isRowHome_27 : decode cX0_isRowHome 27 = .ok (.iconst 1, 1) := dk_4 (dk_at dksX0_isRowHome_1 3 rfl rfl)
theorem dX0_isRowHome_28 : decode cX0_isRowHome 28 = .ok (.goto 4, 3) := dk_167 0 4 (dk_at dksX0_isRowHome_1 4 rfl rfl)
theorem dX0_isRowHome_31 : decode cX0_isRowHome 31 = .ok (.iconst 0, 1) := dk_3 (dk_at dksX0_isRowHome_1 7 rfl rfl)
theorem dX0_isRowHome_32 : decode cX0_isRowHome 32 = .ok (.ireturn, 1) := dk_172 (dk_at dksX0_isRowHome_1 8 rfl rfl)
abbrev cX0_pairings : ByteArray := prog_1_method_59_code
def yX0_pairings : MethodName := ⟨RX0, "pairings", "(I)I"⟩
def dkwX0_pairings_2 : List UInt8 := [180, 0, 196, 160, 0, 7, 4, 167, 0, 4, 3, 96, 61, 132, 3, 1, 167, 255, 216, 28, 172]
abbrev dktX0_pairings_2 : List UInt8 := dkwX0_pairings_2 ++ []
def dkwX0_pairings_1 : List UInt8 := [42, 180, 0, 214, 162, 0, 38, 28, 42, 42, 29, 182, 0, 220, 4, 100, 182, 0, 211, 180, 0, 127, 42]
abbrev dktX0_pairings_1 : List UInt8 := dkwX0_pairings_1 ++ dktX0_pairings_2
def dkwX0_pairings_0 : List UInt8 := [42, 27, 182, 1, 14, 154, 0, 5, 2, 172, 42, 27, 182, 1, 0, 42, 182, 0, 241, 3, 61, 3, 62, 29]
abbrev dktX0_pairings_0 : List UInt8 := dkwX0_pairings_0 ++ dktX0_pairings_1
theorem dksX0_pairings_0 : cX0_pairings.data.toList.drop 0 = dktX0_pairings_0 := by decide +kernel
theorem dksX0_pairings_1 : cX0_pairings.data.toList.drop 24 = dktX0_pairings_1 := dk_seg dksX0_pairings_0 24 rfl rfl
theorem dksX0_pairings_2 : cX0_pairings.data.toList.drop 47 = dktX0_pairings_2 := dk_seg dksX0_pairings_1 23 rfl rfl
theorem dX0_pairings_0 : decode cX0_pairings 0 = .ok (.aload_n 0, 1) := dk_42 (dk_at dksX0_pairings_0 0 rfl rfl)
theorem dX0_pairings_1 : decode cX0_pairings 1 = .ok (.iload_n 1, 1) := dk_27 (dk_at dksX0_pairings_0 1 rfl rfl)
theorem dX0_pairings_2 : decode cX0_pairings 2 = .ok (.invokevirtual 270, 3) := dk_182 1 14 (dk_at dksX0_pairings_0 2 rfl rfl)
theorem dX0_pairings_5 : decode cX0_pairings 5 = .ok (.ifCond .ne 5, 3) := dk_154 0 5 (dk_at dksX0_pairings_0 5 rfl rfl)
theorem dX0_pairings_8 : decode cX0_pairings 8 = .ok (.iconst (-1), 1) := dk_2 (dk_at dksX0_pairings_0 8 rfl rfl)
theorem dX0_pairings_9 : decode cX0_pairings 9 = .ok (.ireturn, 1) := dk_172 (dk_at dksX0_pairings_0 9 rfl rfl)
theorem dX0_pairings_10 : decode cX0_pairings 10 = .ok (.aload_n 0, 1) := dk_42 (dk_at dksX0_pairings_0 10 rfl rfl)
theorem dX0_pairings_11 : decode cX0_pairings 11 = .ok (.iload_n 1, 1) := dk_27 (dk_at dksX0_pairings_0 11 rfl rfl)
theorem dX0_pairings_12 : decode cX0_pairings 12 = .ok (.invokevirtual 256, 3) := dk_182 1 0 (dk_at dksX0_pairings_0 12 rfl rfl)
theorem dX0_pairings_15 : decode cX0_pairings 15 = .ok (.aload_n 0, 1) := dk_42 (dk_at dksX0_pairings_0 15 rfl rfl)
theorem dX0_pairings_16 : decode cX0_pairings 16 = .ok (.invokevirtual 241, 3) := dk_182 0 241 (dk_at dksX0_pairings_0 16 rfl rfl)
theorem dX0_pairings_19 : decode cX0_pairings 19 = .ok (.iconst 0, 1) := dk_3 (dk_at dksX0_pairings_0 19 rfl rfl)
theorem dX0_pairings_20 : decode cX0_pairings 20 = .ok (.istore_n 2, 1) := dk_61 (dk_at dksX0_pairings_0 20 rfl rfl)
theorem dX0_pairings_21 : decode cX0_pairings 21 = .ok (.iconst 0, 1) := dk_3 (dk_at dksX0_pairings_0 21 rfl rfl)
theorem dX0_pairings_22 : decode cX0_pairings 22 = .ok (.istore_n 3, 1) := dk_62 (dk_at dksX0_pairings_0 22 rfl rfl)
theorem dX0_pairings_23 : decode cX0_pairings 23 = .ok (.iload_n 3, 1) := dk_29 (dk_at dksX0_pairings_0 23 rfl rfl)
theorem dX0_pairings_24 : decode cX0_pairings 24 = .ok (.aload_n 0, 1) := dk_42 (dk_at dksX0_pairings_1 0 rfl rfl)
theorem dX0_pairings_25 : decode cX0_pairings 25 = .ok (.getfield 214, 3) := dk_180 0 214 (dk_at dksX0_pairings_1 1 rfl rfl)
theorem dX0_pairings_28 : decode cX0_pairings 28 = .ok (.if_icmp .ge 38, 3) := dk_162 0 38 (dk_at dksX0_pairings_1 4 rfl rfl)
theorem dX0_pairings_31 : decode cX0_pairings 31 = .ok (.iload_n 2, 1) := dk_28 (dk_at dksX0_pairings_1 7 rfl rfl)
theorem dX0_pairings_32 : decode cX0_pairings 32 = .ok (.aload_n 0, 1) := dk_42 (dk_at dksX0_pairings_1 8 rfl rfl)
theorem dX0_pairings_33 : decode cX0_pairings 33 = .ok (.aload_n 0, 1) := dk_42 (dk_at dksX0_pairings_1 9 rfl rfl)
theorem dX0_pairings_34 : decode cX0_pairings 34 = .ok (.iload_n 3, 1) := dk_29 (dk_at dksX0_pairings_1 10 rfl rfl)
theorem dX0_pairings_35 : decode cX0_pairings 35 = .ok (.invokevirtual 220, 3) := dk_182 0 220 (dk_at dksX0_pairings_1 11 rfl rfl)
theorem dX0_pairings_38 : decode cX0_pairings 38 = .ok (.iconst 1, 1) := dk_4 (dk_at dksX0_pairings_1 14 rfl rfl)
theorem dX0_pairings_39 : decode cX0_pairings 39 = .ok (.isub, 1) := dk_100 (dk_at dksX0_pairings_1 15 rfl rfl)
theorem dX0_pairings_40 : decode cX0_pairings 40 = .ok (.invokevirtual 211, 3) := dk_182 0 211 (dk_at dksX0_pairings_1 16 rfl rfl)
theorem dX0_pairings_43 : decode cX0_pairings 43 = .ok (.getfield 127, 3) := dk_180 0 127 (dk_at dksX0_pairings_1 19 rfl rfl)
theorem dX0_pairings_46 : decode cX0_pairings 46 = .ok (.aload_n 0, 1) := dk_42 (dk_at dksX0_pairings_1 22 rfl rfl)
theorem dX0_pairings_47 : decode cX0_pairings 47 = .ok (.getfield 196, 3) := dk_180 0 196 (dk_at dksX0_pairings_2 0 rfl rfl)
theorem dX0_pairings_50 : decode cX0_pairings 50 = .ok (.if_icmp .ne 7, 3) := dk_160 0 7 (dk_at dksX0_pairings_2 3 rfl rfl)
theorem dX0_pairings_53 : decode cX0_pairings 53 = .ok (.iconst 1, 1) := dk_4 (dk_at dksX0_pairings_2 6 rfl rfl)
theorem dX0_pairings_54 : decode cX0_pairings 54 = .ok (.goto 4, 3) := dk_167 0 4 (dk_at dksX0_pairings_2 7 rfl rfl)
theorem dX0_pairings_57 : decode cX0_pairings 57 = .ok (.iconst 0, 1) := dk_3 (dk_at dksX0_pairings_2 10 rfl rfl)
theorem dX0_pairings_58 : decode cX0_pairings 58 = .ok (.iadd, 1) := dk_96 (dk_at dksX0_pairings_2 11 rfl rfl)
theorem dX0_pairings_59 : decode cX0_pairings 59 = .ok (.istore_n 2, 1) := dk_61 (dk_at dksX0_pairings_2 12 rfl rfl)
theorem dX0_pairings_60 : decode cX0_pairings 60 = .ok (.iinc 3 1, 3) := dk_132 3 1 (dk_at dksX0_pairings_2 13 rfl rfl)
theorem dX0_pairings_63 : decode cX0_pairings 63 = .ok (.goto (-40), 3) := dk_167 255 216 (dk_at dksX0_pairings_2 16 rfl rfl)
theorem dX0_pairings_66 : decode cX0_pairings 66 = .ok (.iload_n 2, 1) := dk_28 (dk_at dksX0_pairings_2 19 rfl rfl)
theorem dX0_pairings_67 : decode cX0_pairings 67 = .ok (.ireturn, 1) := dk_172 (dk_at dksX0_pairings_2 20 rfl rfl)
abbrev cX0_cost : ByteArray := prog_1_method_61_code
def yX0_cost : MethodName := ⟨RX0, "cost", "(II)I"⟩
def dkwX0_cost_3 : List UInt8 := [167, 255, 228, 29, 172]
abbrev dktX0_cost_3 : List UInt8 := dkwX0_cost_3 ++ []
def dkwX0_cost_2 : List UInt8 := [180, 0, 76, 182, 0, 66, 162, 0, 19, 29, 42, 21, 4, 28, 182, 1, 39, 96, 62, 132, 4, 1]
abbrev dktX0_cost_2 : List UInt8 := dkwX0_cost_2 ++ dktX0_cost_3
def dkwX0_cost_1 : List UInt8 := [27, 155, 0, 10, 42, 27, 28, 182, 1, 39, 172, 3, 62, 3, 54, 4, 21, 4, 42, 180, 0, 10]
abbrev dktX0_cost_1 : List UInt8 := dkwX0_cost_1 ++ dktX0_cost_2
def dkwX0_cost_0 : List UInt8 := [27, 2, 159, 0, 11, 42, 27, 182, 1, 14, 153, 0, 12, 28, 3, 5, 184, 0, 72, 154, 0, 5, 2, 172]
abbrev dktX0_cost_0 : List UInt8 := dkwX0_cost_0 ++ dktX0_cost_1
theorem dksX0_cost_0 : cX0_cost.data.toList.drop 0 = dktX0_cost_0 := by decide +kernel
theorem dksX0_cost_1 : cX0_cost.data.toList.drop 24 = dktX0_cost_1 := dk_seg dksX0_cost_0 24 rfl rfl
theorem dksX0_cost_2 : cX0_cost.data.toList.drop 46 = dktX0_cost_2 := dk_seg dksX0_cost_1 22 rfl rfl
theorem dksX0_cost_3 : cX0_cost.data.toList.drop 68 = dktX0_cost_3 := dk_seg dksX0_cost_2 22 rfl rfl
theorem dX0_cost_0 : decode cX0_cost 0 = .ok (.iload_n 1, 1) := dk_27 (dk_at dksX0_cost_0 0 rfl rfl)
theorem dX0_cost_1 : decode cX0_cost 1 = .ok (.iconst (-1), 1) := dk_2 (dk_at dksX0_cost_0 1 rfl rfl)
theorem dX0_cost_2 : decode cX0_cost 2 = .ok (.if_icmp .eq 11, 3) := dk_159 0 11 (dk_at dksX0_cost_0 2 rfl rfl)
theorem dX0_cost_5 : decode cX0_cost 5 = .ok (.aload_n 0, 1) := dk_42 (dk_at dksX0_cost_0 5 rfl rfl)
theorem dX0_cost_6 : decode cX0_cost 6 = .ok (.iload_n 1, 1) := dk_27 (dk_at dksX0_cost_0 6 rfl rfl)
theorem dX0_cost_7 : decode cX0_cost 7 = .ok (.invokevirtual 270, 3) := dk_182 1 14 (dk_at dksX0_cost_0 7 rfl rfl)
theorem dX0_cost_10 : decode cX0_cost 10 = .ok (.ifCond .eq 12, 3) := dk_153 0 12 (dk_at dksX0_cost_0 10 rfl rfl)
theorem dX0_cost_13 : decode cX0_cost 13 = .ok (.iload_n 2, 1) := dk_28 (dk_at dksX0_cost_0 13 rfl rfl)
theorem dX0_cost_14 : decode cX0_cost 14 = .ok (.iconst 0, 1) := dk_3 (dk_at dksX0_cost_0 14 rfl rfl)
theorem dX0_cost_15 : decode cX0_cost 15 = .ok (.iconst 2, 1) := dk_5 (dk_at dksX0_cost_0 15 rfl rfl)
theorem dX0_cost_16 : decode cX0_cost 16 = .ok (.invokestatic 72, 3) := dk_184 0 72 (dk_at dksX0_cost_0 16 rfl rfl)
theorem dX0_cost_19 : decode cX0_cost 19 = .ok (.ifCond .ne 5, 3) := dk_154 0 5 (dk_at dksX0_cost_0 19 rfl rfl)
theorem dX0_cost_22 : decode cX0_cost 22 = .ok (.iconst (-1), 1) := dk_2 (dk_at dksX0_cost_0 22 rfl rfl)
theorem dX0_cost_23 : decode cX0_cost 23 = .ok (.ireturn, 1) := dk_172 (dk_at dksX0_cost_0 23 rfl rfl)
theorem dX0_cost_24 : decode cX0_cost 24 = .ok (.iload_n 1, 1) := dk_27 (dk_at dksX0_cost_1 0 rfl rfl)
theorem dX0_cost_25 : decode cX0_cost 25 = .ok (.ifCond .lt 10, 3) := dk_155 0 10 (dk_at dksX0_cost_1 1 rfl rfl)
theorem dX0_cost_28 : decode cX0_cost 28 = .ok (.aload_n 0, 1) := dk_42 (dk_at dksX0_cost_1 4 rfl rfl)
theorem dX0_cost_29 : decode cX0_cost 29 = .ok (.iload_n 1, 1) := dk_27 (dk_at dksX0_cost_1 5 rfl rfl)
theorem dX0_cost_30 : decode cX0_cost 30 = .ok (.iload_n 2, 1) := dk_28 (dk_at dksX0_cost_1 6 rfl rfl)
theorem dX0_cost_31 : decode cX0_cost 31 = .ok (.invokevirtual 295, 3) := dk_182 1 39 (dk_at dksX0_cost_1 7 rfl rfl)
theorem dX0_cost_34 : decode cX0_cost 34 = .ok (.ireturn, 1) := dk_172 (dk_at dksX0_cost_1 10 rfl rfl)
theorem dX0_cost_35 : decode cX0_cost 35 = .ok (.iconst 0, 1) := dk_3 (dk_at dksX0_cost_1 11 rfl rfl)
theorem dX0_cost_36 : decode cX0_cost 36 = .ok (.istore_n 3, 1) := dk_62 (dk_at dksX0_cost_1 12 rfl rfl)
theorem dX0_cost_37 : decode cX0_cost 37 = .ok (.iconst 0, 1) := dk_3 (dk_at dksX0_cost_1 13 rfl rfl)
theorem dX0_cost_38 : decode cX0_cost 38 = .ok (.istore 4, 2) := dk_54 4 (dk_at dksX0_cost_1 14 rfl rfl)
theorem dX0_cost_40 : decode cX0_cost 40 = .ok (.iload 4, 2) := dk_21 4 (dk_at dksX0_cost_1 16 rfl rfl)
theorem dX0_cost_42 : decode cX0_cost 42 = .ok (.aload_n 0, 1) := dk_42 (dk_at dksX0_cost_1 18 rfl rfl)
theorem dX0_cost_43 : decode cX0_cost 43 = .ok (.getfield 10, 3) := dk_180 0 10 (dk_at dksX0_cost_1 19 rfl rfl)
theorem dX0_cost_46 : decode cX0_cost 46 = .ok (.getfield 76, 3) := dk_180 0 76 (dk_at dksX0_cost_2 0 rfl rfl)
theorem dX0_cost_49 : decode cX0_cost 49 = .ok (.invokevirtual 66, 3) := dk_182 0 66 (dk_at dksX0_cost_2 3 rfl rfl)
theorem dX0_cost_52 : decode cX0_cost 52 = .ok (.if_icmp .ge 19, 3) := dk_162 0 19 (dk_at dksX0_cost_2 6 rfl rfl)
theorem dX0_cost_55 : decode cX0_cost 55 = .ok (.iload_n 3, 1) := dk_29 (dk_at dksX0_cost_2 9 rfl rfl)
theorem dX0_cost_56 : decode cX0_cost 56 = .ok (.aload_n 0, 1) := dk_42 (dk_at dksX0_cost_2 10 rfl rfl)
theorem dX0_cost_57 : decode cX0_cost 57 = .ok (.iload 4, 2) := dk_21 4 (dk_at dksX0_cost_2 11 rfl rfl)
theorem dX0_cost_59 : decode cX0_cost 59 = .ok (.iload_n 2, 1) := dk_28 (dk_at dksX0_cost_2 13 rfl rfl)
theorem dX0_cost_60 : decode cX0_cost 60 = .ok (.invokevirtual 295, 3) := dk_182 1 39 (dk_at dksX0_cost_2 14 rfl rfl)
theorem dX0_cost_63 : decode cX0_cost 63 = .ok (.iadd, 1) := dk_96 (dk_at dksX0_cost_2 17 rfl rfl)
theorem dX0_cost_64 : decode cX0_cost 64 = .ok (.istore_n 3, 1) := dk_62 (dk_at dksX0_cost_2 18 rfl rfl)
theorem dX0_cost_65 : decode cX0_cost 65 = .ok (.iinc 4 1, 3) := dk_132 4 1 (dk_at dksX0_cost_2 19 rfl rfl)
theorem dX0_cost_68 : decode cX0_cost 68 = .ok (.goto (-28), 3) := dk_167 255 228 (dk_at dksX0_cost_3 0 rfl rfl)
theorem dX0_cost_71 : decode cX0_cost 71 = .ok (.iload_n 3, 1) := dk_29 (dk_at dksX0_cost_3 3 rfl rfl)
theorem dX0_cost_72 : decode cX0_cost 72 = .ok (.ireturn, 1) := dk_172 (dk_at dksX0_cost_3 4 rfl rfl)
abbrev cX0_costOf : ByteArray := prog_1_method_60_code
def yX0_costOf : MethodName := ⟨RX0, "costOf", "(II)I"⟩
def dkwX0_costOf_6 : List UInt8 := [160, 0, 8, 21, 4, 167, 0, 7, 29, 21, 4, 96, 172]
abbrev dktX0_costOf_6 : List UInt8 := dkwX0_costOf_6 ++ []
def dkwX0_costOf_5 : List UInt8 := [16, 7, 46, 96, 54, 4, 132, 5, 1, 167, 255, 202, 28, 154, 0, 7, 29, 167, 0, 17, 28, 4]
abbrev dktX0_costOf_5 : List UInt8 := dkwX0_costOf_5 ++ dktX0_costOf_6
def dkwX0_costOf_4 : List UInt8 := [182, 0, 211, 180, 0, 127, 42, 180, 0, 196, 160, 0, 7, 3, 167, 0, 13, 42, 180, 0, 10, 180, 0, 190]
abbrev dktX0_costOf_4 : List UInt8 := dkwX0_costOf_4 ++ dktX0_costOf_5
def dkwX0_costOf_3 : List UInt8 := [54, 5, 21, 5, 42, 180, 0, 214, 162, 0, 51, 21, 4, 42, 42, 180, 0, 24, 21, 5, 46, 4, 100]
abbrev dktX0_costOf_3 : List UInt8 := dkwX0_costOf_3 ++ dktX0_costOf_4
def dkwX0_costOf_2 : List UInt8 := [180, 0, 190, 16, 6, 46, 104, 96, 62, 132, 4, 1, 167, 255, 207, 42, 182, 0, 241, 3, 54, 4, 4]
abbrev dktX0_costOf_2 : List UInt8 := dkwX0_costOf_2 ++ dktX0_costOf_3
def dkwX0_costOf_1 : List UInt8 := [21, 4, 51, 153, 0, 7, 3, 167, 0, 23, 42, 21, 4, 182, 0, 211, 182, 0, 223, 42, 180, 0, 10]
abbrev dktX0_costOf_1 : List UInt8 := dkwX0_costOf_1 ++ dktX0_costOf_2
def dkwX0_costOf_0 : List UInt8 := [42, 27, 182, 1, 0, 3, 62, 3, 54, 4, 21, 4, 42, 180, 0, 202, 162, 0, 46, 29, 42, 180, 0, 27]
abbrev dktX0_costOf_0 : List UInt8 := dkwX0_costOf_0 ++ dktX0_costOf_1
theorem dksX0_costOf_0 : cX0_costOf.data.toList.drop 0 = dktX0_costOf_0 := by decide +kernel
theorem dksX0_costOf_1 : cX0_costOf.data.toList.drop 24 = dktX0_costOf_1 := dk_seg dksX0_costOf_0 24 rfl rfl
theorem dksX0_costOf_2 : cX0_costOf.data.toList.drop 47 = dktX0_costOf_2 := dk_seg dksX0_costOf_1 23 rfl rfl
theorem dksX0_costOf_3 : cX0_costOf.data.toList.drop 70 = dktX0_costOf_3 := dk_seg dksX0_costOf_2 23 rfl rfl
theorem dksX0_costOf_4 : cX0_costOf.data.toList.drop 93 = dktX0_costOf_4 := dk_seg dksX0_costOf_3 23 rfl rfl
theorem dksX0_costOf_5 : cX0_costOf.data.toList.drop 117 = dktX0_costOf_5 := dk_seg dksX0_costOf_4 24 rfl rfl
theorem dksX0_costOf_6 : cX0_costOf.data.toList.drop 139 = dktX0_costOf_6 := dk_seg dksX0_costOf_5 22 rfl rfl
theorem dX0_costOf_0 : decode cX0_costOf 0 = .ok (.aload_n 0, 1) := dk_42 (dk_at dksX0_costOf_0 0 rfl rfl)
theorem dX0_costOf_1 : decode cX0_costOf 1 = .ok (.iload_n 1, 1) := dk_27 (dk_at dksX0_costOf_0 1 rfl rfl)
theorem dX0_costOf_2 : decode cX0_costOf 2 = .ok (.invokevirtual 256, 3) := dk_182 1 0 (dk_at dksX0_costOf_0 2 rfl rfl)
theorem dX0_costOf_5 : decode cX0_costOf 5 = .ok (.iconst 0, 1) := dk_3 (dk_at dksX0_costOf_0 5 rfl rfl)
theorem dX0_costOf_6 : decode cX0_costOf 6 = .ok (.istore_n 3, 1) := dk_62 (dk_at dksX0_costOf_0 6 rfl rfl)
theorem dX0_costOf_7 : decode cX0_costOf 7 = .ok (.iconst 0, 1) := dk_3 (dk_at dksX0_costOf_0 7 rfl rfl)
theorem dX0_costOf_8 : decode cX0_costOf 8 = .ok (.istore 4, 2) := dk_54 4 (dk_at dksX0_costOf_0 8 rfl rfl)
theorem dX0_costOf_10 : decode cX0_costOf 10 = .ok (.iload 4, 2) := dk_21 4 (dk_at dksX0_costOf_0 10 rfl rfl)
theorem dX0_costOf_12 : decode cX0_costOf 12 = .ok (.aload_n 0, 1) := dk_42 (dk_at dksX0_costOf_0 12 rfl rfl)
theorem dX0_costOf_13 : decode cX0_costOf 13 = .ok (.getfield 202, 3) := dk_180 0 202 (dk_at dksX0_costOf_0 13 rfl rfl)
theorem dX0_costOf_16 : decode cX0_costOf 16 = .ok (.if_icmp .ge 46, 3) := dk_162 0 46 (dk_at dksX0_costOf_0 16 rfl rfl)
theorem dX0_costOf_19 : decode cX0_costOf 19 = .ok (.iload_n 3, 1) := dk_29 (dk_at dksX0_costOf_0 19 rfl rfl)
theorem dX0_costOf_20 : decode cX0_costOf 20 = .ok (.aload_n 0, 1) := dk_42 (dk_at dksX0_costOf_0 20 rfl rfl)
theorem dX0_costOf_21 : decode cX0_costOf 21 = .ok (.getfield 27, 3) := dk_180 0 27 (dk_at dksX0_costOf_0 21 rfl rfl)
theorem dX0_costOf_24 : decode cX0_costOf 24 = .ok (.iload 4, 2) := dk_21 4 (dk_at dksX0_costOf_1 0 rfl rfl)
theorem dX0_costOf_26 : decode cX0_costOf 26 = .ok (.baload, 1) := dk_51 (dk_at dksX0_costOf_1 2 rfl rfl)
theorem dX0_costOf_27 : decode cX0_costOf 27 = .ok (.ifCond .eq 7, 3) := dk_153 0 7 (dk_at dksX0_costOf_1 3 rfl rfl)
theorem dX0_costOf_30 : decode cX0_costOf 30 = .ok (.iconst 0, 1) := dk_3 (dk_at dksX0_costOf_1 6 rfl rfl)
theorem dX0_costOf_31 : decode cX0_costOf 31 = .ok (.goto 23, 3) := dk_167 0 23 (dk_at dksX0_costOf_1 7 rfl rfl)
theorem dX0_costOf_34 : decode cX0_costOf 34 = .ok (.aload_n 0, 1) := dk_42 (dk_at dksX0_costOf_1 10 rfl rfl)
theorem dX0_costOf_35 : decode cX0_costOf 35 = .ok (.iload 4, 2) := dk_21 4 (dk_at dksX0_costOf_1 11 rfl rfl)
theorem dX0_costOf_37 : decode cX0_costOf 37 = .ok (.invokevirtual 211, 3) := dk_182 0 211 (dk_at dksX0_costOf_1 13 rfl rfl)
theorem dX0_costOf_40 : decode cX0_costOf 40 = .ok (.invokevirtual 223, 3) := dk_182 0 223 (dk_at dksX0_costOf_1 16 rfl rfl)
theorem dX0_costOf_43 : decode cX0_costOf 43 = .ok (.aload_n 0, 1) := dk_42 (dk_at dksX0_costOf_1 19 rfl rfl)
theorem dX0_costOf_44 : decode cX0_costOf 44 = .ok (.getfield 10, 3) := dk_180 0 10 (dk_at dksX0_costOf_1 20 rfl rfl)
theorem dX0_costOf_47 : decode cX0_costOf 47 = .ok (.getfield 190, 3) := dk_180 0 190 (dk_at dksX0_costOf_2 0 rfl rfl)
theorem dX0_costOf_50 : decode cX0_costOf 50 = .ok (.bipush 6, 2) := dk_16 6 (dk_at dksX0_costOf_2 3 rfl rfl)
theorem dX0_costOf_52 : decode cX0_costOf 52 = .ok (.iaload, 1) := dk_46 (dk_at dksX0_costOf_2 5 rfl rfl)
theorem dX0_costOf_53 : decode cX0_costOf 53 = .ok (.imul, 1) := dk_104 (dk_at dksX0_costOf_2 6 rfl rfl)
theorem dX0_costOf_54 : decode cX0_costOf 54 = .ok (.iadd, 1) := dk_96 (dk_at dksX0_costOf_2 7 rfl rfl)
theorem dX0_costOf_55 : decode cX0_costOf 55 = .ok (.istore_n 3, 1) := dk_62 (dk_at dksX0_costOf_2 8 rfl rfl)
theorem dX0_costOf_56 : decode cX0_costOf 56 = .ok (.iinc 4 1, 3) := dk_132 4 1 (dk_at dksX0_costOf_2 9 rfl rfl)
theorem dX0_costOf_59 : decode cX0_costOf 59 = .ok (.goto (-49), 3) := dk_167 255 207 (dk_at dksX0_costOf_2 12 rfl rfl)
theorem dX0_costOf_62 : decode cX0_costOf 62 = .ok (.aload_n 0, 1) := dk_42 (dk_at dksX0_costOf_2 15 rfl rfl)
theorem dX0_costOf_63 : decode cX0_costOf 63 = .ok (.invokevirtual 241, 3) := dk_182 0 241 (dk_at dksX0_costOf_2 16 rfl rfl)
theorem dX0_costOf_66 : decode cX0_costOf 66 = .ok (.iconst 0, 1) := dk_3 (dk_at dksX0_costOf_2 19 rfl rfl)
theorem dX0_costOf_67 : decode cX0_costOf 67 = .ok (.istore 4, 2) := dk_54 4 (dk_at dksX0_costOf_2 20 rfl rfl)
theorem dX0_costOf_69 : decode cX0_costOf 69 = .ok (.iconst 1, 1) := dk_4 (dk_at dksX0_costOf_2 22 rfl rfl)
theorem dX0_costOf_70 : decode cX0_costOf 70 = .ok (.istore 5, 2) := dk_54 5 (dk_at dksX0_costOf_3 0 rfl rfl)
theorem dX0_costOf_72 : decode cX0_costOf 72 = .ok (.iload 5, 2) := dk_21 5 (dk_at dksX0_costOf_3 2 rfl rfl)
theorem dX0_costOf_74 : decode cX0_costOf 74 = .ok (.aload_n 0, 1) := dk_42 (dk_at dksX0_costOf_3 4 rfl rfl)
theorem dX0_costOf_75 : decode cX0_costOf 75 = .ok (.getfield 214, 3) := dk_180 0 214 (dk_at dksX0_costOf_3 5 rfl rfl)
theorem dX0_costOf_78 : decode cX0_costOf 78 = .ok (.if_icmp .ge 51, 3) := dk_162 0 51 (dk_at dksX0_costOf_3 8 rfl rfl)
theorem dX0_costOf_81 : decode cX0_costOf 81 = .ok (.iload 4, 2) := dk_21 4 (dk_at dksX0_costOf_3 11 rfl rfl)
theorem dX0_costOf_83 : decode cX0_costOf 83 = .ok (.aload_n 0, 1) := dk_42 (dk_at dksX0_costOf_3 13 rfl rfl)
theorem dX0_costOf_84 : decode cX0_costOf 84 = .ok (.aload_n 0, 1) := dk_42 (dk_at dksX0_costOf_3 14 rfl rfl)
theorem dX0_costOf_85 : decode cX0_costOf 85 = .ok (.getfield 24, 3) := dk_180 0 24 (dk_at dksX0_costOf_3 15 rfl rfl)
theorem dX0_costOf_88 : decode cX0_costOf 88 = .ok (.iload 5, 2) := dk_21 5 (dk_at dksX0_costOf_3 18 rfl rfl)
theorem dX0_costOf_90 : decode cX0_costOf 90 = .ok (.iaload, 1) := dk_46 (dk_at dksX0_costOf_3 20 rfl rfl)
theorem dX0_costOf_91 : decode cX0_costOf 91 = .ok (.iconst 1, 1) := dk_4 (dk_at dksX0_costOf_3 21 rfl rfl)
theorem dX0_costOf_92 : decode cX0_costOf 92 = .ok (.isub, 1) := dk_100 (dk_at dksX0_costOf_3 22 rfl rfl)
theorem dX0_costOf_93 : decode cX0_costOf 93 = .ok (.invokevirtual 211, 3) := dk_182 0 211 (dk_at dksX0_costOf_4 0 rfl rfl)
theorem dX0_costOf_96 : decode cX0_costOf 96 = .ok (.getfield 127, 3) := dk_180 0 127 (dk_at dksX0_costOf_4 3 rfl rfl)
theorem dX0_costOf_99 : decode cX0_costOf 99 = .ok (.aload_n 0, 1) := dk_42 (dk_at dksX0_costOf_4 6 rfl rfl)
theorem dX0_costOf_100 : decode cX0_costOf 100 = .ok (.getfield 196, 3) := dk_180 0 196 (dk_at dksX0_costOf_4 7 rfl rfl)
theorem dX0_costOf_103 : decode cX0_costOf 103 = .ok (.if_icmp .ne 7, 3) := dk_160 0 7 (dk_at dksX0_costOf_4 10 rfl rfl)
theorem dX0_costOf_106 : decode cX0_costOf 106 = .ok (.iconst 0, 1) := dk_3 (dk_at dksX0_costOf_4 13 rfl rfl)
theorem dX0_costOf_107 : decode cX0_costOf 107 = .ok (.goto 13, 3) := dk_167 0 13 (dk_at dksX0_costOf_4 14 rfl rfl)
theorem dX0_costOf_110 : decode cX0_costOf 110 = .ok (.aload_n 0, 1) := dk_42 (dk_at dksX0_costOf_4 17 rfl rfl)
theorem dX0_costOf_111 : decode cX0_costOf 111 = .ok (.getfield 10, 3) := dk_180 0 10 (dk_at dksX0_costOf_4 18 rfl rfl)
theorem dX0_costOf_114 : decode cX0_costOf 114 = .ok (.getfield 190, 3) := dk_180 0 190 (dk_at dksX0_costOf_4 21 rfl rfl)
theorem dX0_costOf_117 : decode cX0_costOf 117 = .ok (.bipush 7, 2) := dk_16 7 (dk_at dksX0_costOf_5 0 rfl rfl)
theorem dX0_costOf_119 : decode cX0_costOf 119 = .ok (.iaload, 1) := dk_46 (dk_at dksX0_costOf_5 2 rfl rfl)
theorem dX0_costOf_120 : decode cX0_costOf 120 = .ok (.iadd, 1) := dk_96 (dk_at dksX0_costOf_5 3 rfl rfl)
theorem dX0_costOf_121 : decode cX0_costOf 121 = .ok (.istore 4, 2) := dk_54 4 (dk_at dksX0_costOf_5 4 rfl rfl)
theorem dX0_costOf_123 : decode cX0_costOf 123 = .ok (.iinc 5 1, 3) := dk_132 5 1 (dk_at dksX0_costOf_5 6 rfl rfl)
theorem dX0_costOf_126 : decode cX0_costOf 126 = .ok (.goto (-54), 3) := dk_167 255 202 (dk_at dksX0_costOf_5 9 rfl rfl)
theorem dX0_costOf_129 : decode cX0_costOf 129 = .ok (.iload_n 2, 1) := dk_28 (dk_at dksX0_costOf_5 12 rfl rfl)
theorem dX0_costOf_130 : decode cX0_costOf 130 = .ok (.ifCond .ne 7, 3) := dk_154 0 7 (dk_at dksX0_costOf_5 13 rfl rfl)
theorem dX0_costOf_133 : decode cX0_costOf 133 = .ok (.iload_n 3, 1) := dk_29 (dk_at dksX0_costOf_5 16 rfl rfl)
theorem dX0_costOf_134 : decode cX0_costOf 134 = .ok (.goto 17, 3) := dk_167 0 17 (dk_at dksX0_costOf_5 17 rfl rfl)
theorem dX0_costOf_137 : decode cX0_costOf 137 = .ok (.iload_n 2, 1) := dk_28 (dk_at dksX0_costOf_5 20 rfl rfl)
theorem dX0_costOf_138 : decode cX0_costOf 138 = .ok (.iconst 1, 1) := dk_4 (dk_at dksX0_costOf_5 21 rfl rfl)
theorem dX0_costOf_139 : decode cX0_costOf 139 = .ok (.if_icmp .ne 8, 3) := dk_160 0 8 (dk_at dksX0_costOf_6 0 rfl rfl)
theorem dX0_costOf_142 : decode cX0_costOf 142 = .ok (.iload 4, 2) := dk_21 4 (dk_at dksX0_costOf_6 3 rfl rfl)
theorem dX0_costOf_144 : decode cX0_costOf 144 = .ok (.goto 7, 3) := dk_167 0 7 (dk_at dksX0_costOf_6 5 rfl rfl)
theorem dX0_costOf_147 : decode cX0_costOf 147 = .ok (.iload_n 3, 1) := dk_29 (dk_at dksX0_costOf_6 8 rfl rfl)
theorem dX0_costOf_148 : decode cX0_costOf 148 = .ok (.iload 4, 2) := dk_21 4 (dk_at dksX0_costOf_6 9 rfl rfl)
theorem dX0_costOf_150 : decode cX0_costOf 150 = .ok (.iadd, 1) := dk_96 (dk_at dksX0_costOf_6 11 rfl rfl)
theorem dX0_costOf_151 : decode cX0_costOf 151 = .ok (.ireturn, 1) := dk_172 (dk_at dksX0_costOf_6 12 rfl rfl)
abbrev cX0_openCount : ByteArray := prog_1_method_63_code
def yX0_openCount : MethodName := ⟨RX0, "openCount", "()I"⟩
theorem dX0_openCount_0 : decode cX0_openCount 0 = .ok (.aload_n 0, 1) := by decide +kernel
theorem dX0_openCount_1 : decode cX0_openCount 1 = .ok (.invokevirtual 301, 3) := by decide +kernel
theorem dX0_openCount_4 : decode cX0_openCount 4 = .ok (.ireturn, 1) := by decide +kernel
abbrev cX0_findOpen : ByteArray := prog_1_method_62_code
def yX0_findOpen : MethodName := ⟨RX0, "findOpen", "()I"⟩
def dkwX0_findOpen_3 : List UInt8 := [167, 255, 219, 42, 180, 0, 31, 29, 28, 79, 132, 1, 1, 132, 2, 1, 167, 255, 176, 27, 172]
abbrev dktX0_findOpen_3 : List UInt8 := dkwX0_findOpen_3 ++ []
def dkwX0_findOpen_2 : List UInt8 := [182, 0, 207, 153, 0, 23, 42, 180, 0, 31, 29, 42, 180, 0, 31, 29, 4, 100, 46, 79, 132, 3, 255]
abbrev dktX0_findOpen_2 : List UInt8 := dkwX0_findOpen_2 ++ dktX0_findOpen_3
def dkwX0_findOpen_1 : List UInt8 := [154, 0, 6, 167, 0, 55, 27, 62, 29, 158, 0, 39, 42, 28, 42, 180, 0, 31, 29, 4, 100, 46]
abbrev dktX0_findOpen_1 : List UInt8 := dkwX0_findOpen_1 ++ dktX0_findOpen_2
def dkwX0_findOpen_0 : List UInt8 := [3, 60, 3, 61, 28, 42, 180, 0, 10, 180, 0, 62, 182, 0, 66, 162, 0, 72, 42, 28, 182, 1, 42]
abbrev dktX0_findOpen_0 : List UInt8 := dkwX0_findOpen_0 ++ dktX0_findOpen_1
theorem dksX0_findOpen_0 : cX0_findOpen.data.toList.drop 0 = dktX0_findOpen_0 := by decide +kernel
theorem dksX0_findOpen_1 : cX0_findOpen.data.toList.drop 23 = dktX0_findOpen_1 := dk_seg dksX0_findOpen_0 23 rfl rfl
theorem dksX0_findOpen_2 : cX0_findOpen.data.toList.drop 45 = dktX0_findOpen_2 := dk_seg dksX0_findOpen_1 22 rfl rfl
theorem dksX0_findOpen_3 : cX0_findOpen.data.toList.drop 68 = dktX0_findOpen_3 := dk_seg dksX0_findOpen_2 23 rfl rfl
theorem dX0_findOpen_0 : decode cX0_findOpen 0 = .ok (.iconst 0, 1) := dk_3 (dk_at dksX0_findOpen_0 0 rfl rfl)
theorem dX0_findOpen_1 : decode cX0_findOpen 1 = .ok (.istore_n 1, 1) := dk_60 (dk_at dksX0_findOpen_0 1 rfl rfl)
theorem dX0_findOpen_2 : decode cX0_findOpen 2 = .ok (.iconst 0, 1) := dk_3 (dk_at dksX0_findOpen_0 2 rfl rfl)
theorem dX0_findOpen_3 : decode cX0_findOpen 3 = .ok (.istore_n 2, 1) := dk_61 (dk_at dksX0_findOpen_0 3 rfl rfl)
theorem dX0_findOpen_4 : decode cX0_findOpen 4 = .ok (.iload_n 2, 1) := dk_28 (dk_at dksX0_findOpen_0 4 rfl rfl)
theorem dX0_findOpen_5 : decode cX0_findOpen 5 = .ok (.aload_n 0, 1) := dk_42 (dk_at dksX0_findOpen_0 5 rfl rfl)
theorem dX0_findOpen_6 : decode cX0_findOpen 6 = .ok (.getfield 10, 3) := dk_180 0 10 (dk_at dksX0_findOpen_0 6 rfl rfl)
theorem dX0_findOpen_9 : decode cX0_findOpen 9 = .ok (.getfield 62, 3) := dk_180 0 62 (dk_at dksX0_findOpen_0 9 rfl rfl)
theorem dX0_findOpen_12 : decode cX0_findOpen 12 = .ok (.invokevirtual 66, 3) := dk_182 0 66 (dk_at dksX0_findOpen_0 12 rfl rfl)
theorem dX0_findOpen_15 : decode cX0_findOpen 15 = .ok (.if_icmp .ge 72, 3) := dk_162 0 72 (dk_at dksX0_findOpen_0 15 rfl rfl)
theorem dX0_findOpen_18 : decode cX0_findOpen 18 = .ok (.aload_n 0, 1) := dk_42 (dk_at dksX0_findOpen_0 18 rfl rfl)
theorem dX0_findOpen_19 : decode cX0_findOpen 19 = .ok (.iload_n 2, 1) := dk_28 (dk_at dksX0_findOpen_0 19 rfl rfl)
theorem dX0_findOpen_20 : decode cX0_findOpen 20 = .ok (.invokevirtual 298, 3) := dk_182 1 42 (dk_at dksX0_findOpen_0 20 rfl rfl)
theorem dX0_findOpen_23 : decode cX0_findOpen 23 = .ok (.ifCond .ne 6, 3) := dk_154 0 6 (dk_at dksX0_findOpen_1 0 rfl rfl)
theorem dX0_findOpen_26 : decode cX0_findOpen 26 = .ok (.goto 55, 3) := dk_167 0 55 (dk_at dksX0_findOpen_1 3 rfl rfl)
theorem dX0_findOpen_29 : decode cX0_findOpen 29 = .ok (.iload_n 1, 1) := dk_27 (dk_at dksX0_findOpen_1 6 rfl rfl)
theorem dX0_findOpen_30 : decode cX0_findOpen 30 = .ok (.istore_n 3, 1) := dk_62 (dk_at dksX0_findOpen_1 7 rfl rfl)
theorem dX0_findOpen_31 : decode cX0_findOpen 31 = .ok (.iload_n 3, 1) := dk_29 (dk_at dksX0_findOpen_1 8 rfl rfl)
theorem dX0_findOpen_32 : decode cX0_findOpen 32 = .ok (.ifCond .le 39, 3) := dk_158 0 39 (dk_at dksX0_findOpen_1 9 rfl rfl)
theorem dX0_findOpen_35 : decode cX0_findOpen 35 = .ok (.aload_n 0, 1) := dk_42 (dk_at dksX0_findOpen_1 12 rfl rfl)
theorem dX0_findOpen_36 : decode cX0_findOpen 36 = .ok (.iload_n 2, 1) := dk_28 (dk_at dksX0_findOpen_1 13 rfl rfl)
theorem dX0_findOpen_37 : decode cX0_findOpen 37 = .ok (.aload_n 0, 1) := dk_42 (dk_at dksX0_findOpen_1 14 rfl rfl)
theorem dX0_findOpen_38 : decode cX0_findOpen 38 = .ok (.getfield 31, 3) := dk_180 0 31 (dk_at dksX0_findOpen_1 15 rfl rfl)
theorem dX0_findOpen_41 : decode cX0_findOpen 41 = .ok (.iload_n 3, 1) := dk_29 (dk_at dksX0_findOpen_1 18 rfl rfl)
theorem dX0_findOpen_42 : decode cX0_findOpen 42 = .ok (.iconst 1, 1) := dk_4 (dk_at dksX0_findOpen_1 19 rfl rfl)
theorem dX0_findOpen_43 : decode cX0_findOpen 43 = .ok (.isub, 1) := dk_100 (dk_at dksX0_findOpen_1 20 rfl rfl)
theorem dX0_findOpen_44 : decode cX0_findOpen 44 = .ok (.iaload, 1) := dk_46 (dk_at dksX0_findOpen_1 21 rfl rfl)
theorem dX0_findOpen_45 : decode cX0_findOpen 45 = .ok (.invokevirtual 207, 3) := dk_182 0 207 (dk_at dksX0_findOpen_2 0 rfl rfl)
theorem dX0_findOpen_48 : decode cX0_findOpen 48 = .ok (.ifCond .eq 23, 3) := dk_153 0 23 (dk_at dksX0_findOpen_2 3 rfl rfl)
theorem dX0_findOpen_51 : decode cX0_findOpen 51 = .ok (.aload_n 0, 1) := dk_42 (dk_at dksX0_findOpen_2 6 rfl rfl)
theorem dX0_findOpen_52 : decode cX0_findOpen 52 = .ok (.getfield 31, 3) := dk_180 0 31 (dk_at dksX0_findOpen_2 7 rfl rfl)
theorem dX0_findOpen_55 : decode cX0_findOpen 55 = .ok (.iload_n 3, 1) := dk_29 (dk_at dksX0_findOpen_2 10 rfl rfl)
theorem dX0_findOpen_56 : decode cX0_findOpen 56 = .ok (.aload_n 0, 1) := dk_42 (dk_at dksX0_findOpen_2 11 rfl rfl)
theorem dX0_findOpen_57 : decode cX0_findOpen 57 = .ok (.getfield 31, 3) := dk_180 0 31 (dk_at dksX0_findOpen_2 12 rfl rfl)
theorem dX0_findOpen_60 : decode cX0_findOpen 60 = .ok (.iload_n 3, 1) := dk_29 (dk_at dksX0_findOpen_2 15 rfl rfl)
theorem dX0_findOpen_61 : decode cX0_findOpen 61 = .ok (.iconst 1, 1) := dk_4 (dk_at dksX0_findOpen_2 16 rfl rfl)
theorem dX0_findOpen_62 : decode cX0_findOpen 62 = .ok (.isub, 1) := dk_100 (dk_at dksX0_findOpen_2 17 rfl rfl)
theorem dX0_findOpen_63 : decode cX0_findOpen 63 = .ok (.iaload, 1) := dk_46 (dk_at dksX0_findOpen_2 18 rfl rfl)
theorem dX0_findOpen_64 : decode cX0_findOpen 64 = .ok (.iastore, 1) := dk_79 (dk_at dksX0_findOpen_2 19 rfl rfl)
theorem dX0_findOpen_65 : decode cX0_findOpen 65 = .ok (.iinc 3 (-1), 3) := dk_132 3 255 (dk_at dksX0_findOpen_2 20 rfl rfl)
theorem dX0_findOpen_68 : decode cX0_findOpen 68 = .ok (.goto (-37), 3) := dk_167 255 219 (dk_at dksX0_findOpen_3 0 rfl rfl)
theorem dX0_findOpen_71 : decode cX0_findOpen 71 = .ok (.aload_n 0, 1) := dk_42 (dk_at dksX0_findOpen_3 3 rfl rfl)
theorem dX0_findOpen_72 : decode cX0_findOpen 72 = .ok (.getfield 31, 3) := dk_180 0 31 (dk_at dksX0_findOpen_3 4 rfl rfl)
theorem dX0_findOpen_75 : decode cX0_findOpen 75 = .ok (.iload_n 3, 1) := dk_29 (dk_at dksX0_findOpen_3 7 rfl rfl)
theorem dX0_findOpen_76 : decode cX0_findOpen 76 = .ok (.iload_n 2, 1) := dk_28 (dk_at dksX0_findOpen_3 8 rfl rfl)
theorem dX0_findOpen_77 : decode cX0_findOpen 77 = .ok (.iastore, 1) := dk_79 (dk_at dksX0_findOpen_3 9 rfl rfl)
theorem dX0_findOpen_78 : decode cX0_findOpen 78 = .ok (.iinc 1 1, 3) := dk_132 1 1 (dk_at dksX0_findOpen_3 10 rfl rfl)
theorem dX0_findOpen_81 : decode cX0_findOpen 81 = .ok (.iinc 2 1, 3) := dk_132 2 1 (dk_at dksX0_findOpen_3 13 rfl rfl)
theorem dX0_findOpen_84 : decode cX0_findOpen 84 = .ok (.goto (-80), 3) := dk_167 255 176 (dk_at dksX0_findOpen_3 16 rfl rfl)
theorem dX0_findOpen_87 : decode cX0_findOpen 87 = .ok (.iload_n 1, 1) := dk_27 (dk_at dksX0_findOpen_3 19 rfl rfl)
theorem dX0_findOpen_88 : decode cX0_findOpen 88 = .ok (.ireturn, 1) := dk_172 (dk_at dksX0_findOpen_3 20 rfl rfl)
abbrev cX0_isOpen : ByteArray := prog_1_method_18_code
def yX0_isOpen : MethodName := ⟨RX0, "isOpen", "(I)Z"⟩
def dkwX0_isOpen_1 : List UInt8 := [172]
abbrev dktX0_isOpen_1 : List UInt8 := dkwX0_isOpen_1 ++ []
def dkwX0_isOpen_0 : List UInt8 := [42, 27, 182, 0, 118, 180, 0, 171, 154, 0, 15, 42, 27, 182, 0, 174, 156, 0, 7, 4, 167, 0, 4, 3]
abbrev dktX0_isOpen_0 : List UInt8 := dkwX0_isOpen_0 ++ dktX0_isOpen_1
theorem dksX0_isOpen_0 : cX0_isOpen.data.toList.drop 0 = dktX0_isOpen_0 := by decide +kernel
theorem dksX0_isOpen_1 : cX0_isOpen.data.toList.drop 24 = dktX0_isOpen_1 := dk_seg dksX0_isOpen_0 24 rfl rfl
theorem dX0_isOpen_0 : decode cX0_isOpen 0 = .ok (.aload_n 0, 1) := dk_42 (dk_at dksX0_isOpen_0 0 rfl rfl)
theorem dX0_isOpen_1 : decode cX0_isOpen 1 = .ok (.iload_n 1, 1) := dk_27 (dk_at dksX0_isOpen_0 1 rfl rfl)
theorem dX0_isOpen_2 : decode cX0_isOpen 2 = .ok (.invokevirtual 118, 3) := dk_182 0 118 (dk_at dksX0_isOpen_0 2 rfl rfl)
theorem dX0_isOpen_5 : decode cX0_isOpen 5 = .ok (.getfield 171, 3) := dk_180 0 171 (dk_at dksX0_isOpen_0 5 rfl rfl)
theorem dX0_isOpen_8 : decode cX0_isOpen 8 = .ok (.ifCond .ne 15, 3) := dk_154 0 15 (dk_at dksX0_isOpen_0 8 rfl rfl)
theorem dX0_isOpen_11 : decode cX0_isOpen 11 = .ok (.aload_n 0, 1) := dk_42 (dk_at dksX0_isOpen_0 11 rfl rfl)
theorem dX0_isOpen_12 : decode cX0_isOpen 12 = .ok (.iload_n 1, 1) := dk_27 (dk_at dksX0_isOpen_0 12 rfl rfl)
theorem dX0_isOpen_13 : decode cX0_isOpen 13 = .ok (.invokevirtual 174, 3) := dk_182 0 174 (dk_at dksX0_isOpen_0 13 rfl rfl)
theorem dX0_isOpen_16 : decode cX0_isOpen 16 = .ok (.ifCond .ge 7, 3) := dk_156 0 7 (dk_at dksX0_isOpen_0 16 rfl rfl)
theorem dX0_isOpen_19 : decode cX0_isOpen 19 = .ok (.iconst 1, 1) := dk_4 (dk_at dksX0_isOpen_0 19 rfl rfl)
theorem dX0_isOpen_20 : decode cX0_isOpen 20 = .ok (.goto 4, 3) := dk_167 0 4 (dk_at dksX0_isOpen_0 20 rfl rfl)
theorem dX0_isOpen_23 : decode cX0_isOpen 23 = .ok (.iconst 0, 1) := dk_3 (dk_at dksX0_isOpen_0 23 rfl rfl)
theorem dX0_isOpen_24 : decode cX0_isOpen 24 = .ok (.ireturn, 1) := dk_172 (dk_at dksX0_isOpen_1 0 rfl rfl)
abbrev cX0_open : ByteArray := prog_1_method_64_code
def yX0_open : MethodName := ⟨RX0, "open", "(I)I"⟩
def dkwX0_open_1 : List UInt8 := [16, 254, 172]
abbrev dktX0_open_1 : List UInt8 := dkwX0_open_1 ++ []
def dkwX0_open_0 : List UInt8 := [27, 3, 42, 182, 1, 45, 4, 100, 184, 0, 72, 153, 0, 12, 42, 180, 0, 31, 27, 46, 167, 0, 5]
abbrev dktX0_open_0 : List UInt8 := dkwX0_open_0 ++ dktX0_open_1
theorem dksX0_open_0 : cX0_open.data.toList.drop 0 = dktX0_open_0 := by decide +kernel
theorem dksX0_open_1 : cX0_open.data.toList.drop 23 = dktX0_open_1 := dk_seg dksX0_open_0 23 rfl rfl
theorem dX0_open_0 : decode cX0_open 0 = .ok (.iload_n 1, 1) := dk_27 (dk_at dksX0_open_0 0 rfl rfl)
theorem dX0_open_1 : decode cX0_open 1 = .ok (.iconst 0, 1) := dk_3 (dk_at dksX0_open_0 1 rfl rfl)
theorem dX0_open_2 : decode cX0_open 2 = .ok (.aload_n 0, 1) := dk_42 (dk_at dksX0_open_0 2 rfl rfl)
theorem dX0_open_3 : decode cX0_open 3 = .ok (.invokevirtual 301, 3) := dk_182 1 45 (dk_at dksX0_open_0 3 rfl rfl)
theorem dX0_open_6 : decode cX0_open 6 = .ok (.iconst 1, 1) := dk_4 (dk_at dksX0_open_0 6 rfl rfl)
theorem dX0_open_7 : decode cX0_open 7 = .ok (.isub, 1) := dk_100 (dk_at dksX0_open_0 7 rfl rfl)
theorem dX0_open_8 : decode cX0_open 8 = .ok (.invokestatic 72, 3) := dk_184 0 72 (dk_at dksX0_open_0 8 rfl rfl)
theorem dX0_open_11 : decode cX0_open 11 = .ok (.ifCond .eq 12, 3) := dk_153 0 12 (dk_at dksX0_open_0 11 rfl rfl)
theorem dX0_open_14 : decode cX0_open 14 = .ok (.aload_n 0, 1) := dk_42 (dk_at dksX0_open_0 14 rfl rfl)
theorem dX0_open_15 : decode cX0_open 15 = .ok (.getfield 31, 3) := dk_180 0 31 (dk_at dksX0_open_0 15 rfl rfl)
theorem dX0_open_18 : decode cX0_open 18 = .ok (.iload_n 1, 1) := dk_27 (dk_at dksX0_open_0 18 rfl rfl)
theorem dX0_open_19 : decode cX0_open 19 = .ok (.iaload, 1) := dk_46 (dk_at dksX0_open_0 19 rfl rfl)
theorem dX0_open_20 : decode cX0_open 20 = .ok (.goto 5, 3) := dk_167 0 5 (dk_at dksX0_open_0 20 rfl rfl)
theorem dX0_open_23 : decode cX0_open 23 = .ok (.bipush (-2), 2) := dk_16 254 (dk_at dksX0_open_1 0 rfl rfl)
theorem dX0_open_25 : decode cX0_open 25 = .ok (.ireturn, 1) := dk_172 (dk_at dksX0_open_1 2 rfl rfl)
abbrev cX0_delay : ByteArray := prog_1_method_66_code
def yX0_delay : MethodName := ⟨RX0, "delay", "(II)I"⟩
def dkwX0_delay_7 : List UInt8 := [172]
abbrev dktX0_delay_7 : List UInt8 := dkwX0_delay_7 ++ []
def dkwX0_delay_6 : List UInt8 := [21, 5, 182, 1, 30, 158, 0, 7, 4, 167, 0, 4, 3, 96, 54, 4, 132, 5, 1, 167, 255, 213, 21, 4]
abbrev dktX0_delay_6 : List UInt8 := dkwX0_delay_6 ++ dktX0_delay_7
def dkwX0_delay_5 : List UInt8 := [21, 5, 42, 180, 0, 10, 180, 0, 76, 182, 0, 66, 162, 0, 34, 42, 21, 5, 182, 1, 48, 21, 4, 42]
abbrev dktX0_delay_5 : List UInt8 := dkwX0_delay_5 ++ dktX0_delay_6
def dkwX0_delay_4 : List UInt8 := [180, 0, 130, 28, 96, 181, 0, 130, 45, 89, 180, 0, 181, 28, 96, 181, 0, 181, 3, 54, 4, 3, 54, 5]
abbrev dktX0_delay_4 : List UInt8 := dkwX0_delay_4 ++ dktX0_delay_5
def dkwX0_delay_3 : List UInt8 := [180, 0, 130, 28, 96, 183, 0, 133, 182, 0, 150, 153, 0, 6, 16, 252, 172, 42, 182, 0, 112, 45, 89]
abbrev dktX0_delay_3 : List UInt8 := dkwX0_delay_3 ++ dktX0_delay_4
def dkwX0_delay_2 : List UInt8 := [164, 0, 6, 16, 251, 172, 42, 27, 182, 0, 146, 187, 0, 122, 89, 45, 180, 0, 124, 45, 180, 0, 127, 45]
abbrev dktX0_delay_2 : List UInt8 := dkwX0_delay_2 ++ dktX0_delay_3
def dkwX0_delay_1 : List UInt8 := [27, 182, 0, 118, 78, 45, 180, 0, 130, 28, 96, 155, 0, 15, 45, 180, 0, 181, 28, 96, 17, 23, 111]
abbrev dktX0_delay_1 : List UInt8 := dkwX0_delay_1 ++ dktX0_delay_2
def dkwX0_delay_0 : List UInt8 := [42, 27, 182, 0, 177, 153, 0, 16, 28, 17, 253, 168, 17, 2, 88, 184, 0, 72, 154, 0, 5, 2, 172, 42]
abbrev dktX0_delay_0 : List UInt8 := dkwX0_delay_0 ++ dktX0_delay_1
theorem dksX0_delay_0 : cX0_delay.data.toList.drop 0 = dktX0_delay_0 := by decide +kernel
theorem dksX0_delay_1 : cX0_delay.data.toList.drop 24 = dktX0_delay_1 := dk_seg dksX0_delay_0 24 rfl rfl
theorem dksX0_delay_2 : cX0_delay.data.toList.drop 47 = dktX0_delay_2 := dk_seg dksX0_delay_1 23 rfl rfl
theorem dksX0_delay_3 : cX0_delay.data.toList.drop 71 = dktX0_delay_3 := dk_seg dksX0_delay_2 24 rfl rfl
theorem dksX0_delay_4 : cX0_delay.data.toList.drop 94 = dktX0_delay_4 := dk_seg dksX0_delay_3 23 rfl rfl
theorem dksX0_delay_5 : cX0_delay.data.toList.drop 118 = dktX0_delay_5 := dk_seg dksX0_delay_4 24 rfl rfl
theorem dksX0_delay_6 : cX0_delay.data.toList.drop 142 = dktX0_delay_6 := dk_seg dksX0_delay_5 24 rfl rfl
theorem dksX0_delay_7 : cX0_delay.data.toList.drop 166 = dktX0_delay_7 := dk_seg dksX0_delay_6 24 rfl rfl
theorem dX0_delay_0 : decode cX0_delay 0 = .ok (.aload_n 0, 1) := dk_42 (dk_at dksX0_delay_0 0 rfl rfl)
theorem dX0_delay_1 : decode cX0_delay 1 = .ok (.iload_n 1, 1) := dk_27 (dk_at dksX0_delay_0 1 rfl rfl)
theorem dX0_delay_2 : decode cX0_delay 2 = .ok (.invokevirtual 177, 3) := dk_182 0 177 (dk_at dksX0_delay_0 2 rfl rfl)
theorem dX0_delay_5 : decode cX0_delay 5 = .ok (.ifCond .eq 16, 3) := dk_153 0 16 (dk_at dksX0_delay_0 5 rfl rfl)
theorem dX0_delay_8 : decode cX0_delay 8 = .ok (.iload_n 2, 1) := dk_28 (dk_at dksX0_delay_0 8 rfl rfl)
theorem dX0_delay_9 : decode cX0_delay 9 = .ok (.sipush (-600), 3) := dk_17 253 168 (dk_at dksX0_delay_0 9 rfl rfl)
theorem dX0_delay_12 : decode cX0_delay 12 = .ok (.sipush 600, 3) := dk_17 2 88 (dk_at dksX0_delay_0 12 rfl rfl)
theorem dX0_delay_15 : decode cX0_delay 15 = .ok (.invokestatic 72, 3) := dk_184 0 72 (dk_at dksX0_delay_0 15 rfl rfl)
theorem dX0_delay_18 : decode cX0_delay 18 = .ok (.ifCond .ne 5, 3) := dk_154 0 5 (dk_at dksX0_delay_0 18 rfl rfl)
theorem dX0_delay_21 : decode cX0_delay 21 = .ok (.iconst (-1), 1) := dk_2 (dk_at dksX0_delay_0 21 rfl rfl)
theorem dX0_delay_22 : decode cX0_delay 22 = .ok (.ireturn, 1) := dk_172 (dk_at dksX0_delay_0 22 rfl rfl)
theorem dX0_delay_23 : decode cX0_delay 23 = .ok (.aload_n 0, 1) := dk_42 (dk_at dksX0_delay_0 23 rfl rfl)
theorem dX0_delay_24 : decode cX0_delay 24 = .ok (.iload_n 1, 1) := dk_27 (dk_at dksX0_delay_1 0 rfl rfl)
theorem dX0_delay_25 : decode cX0_delay 25 = .ok (.invokevirtual 118, 3) := dk_182 0 118 (dk_at dksX0_delay_1 1 rfl rfl)
theorem dX0_delay_28 : decode cX0_delay 28 = .ok (.astore_n 3, 1) := dk_78 (dk_at dksX0_delay_1 4 rfl rfl)
theorem dX0_delay_29 : decode cX0_delay 29 = .ok (.aload_n 3, 1) := dk_45 (dk_at dksX0_delay_1 5 rfl rfl)
theorem dX0_delay_30 : decode cX0_delay 30 = .ok (.getfield 130, 3) := dk_180 0 130 (dk_at dksX0_delay_1 6 rfl rfl)
theorem dX0_delay_33 : decode cX0_delay 33 = .ok (.iload_n 2, 1) := dk_28 (dk_at dksX0_delay_1 9 rfl rfl)
theorem dX0_delay_34 : decode cX0_delay 34 = .ok (.iadd, 1) := dk_96 (dk_at dksX0_delay_1 10 rfl rfl)
theorem dX0_delay_35 : decode cX0_delay 35 = .ok (.ifCond .lt 15, 3) := dk_155 0 15 (dk_at dksX0_delay_1 11 rfl rfl)
theorem dX0_delay_38 : decode cX0_delay 38 = .ok (.aload_n 3, 1) := dk_45 (dk_at dksX0_delay_1 14 rfl rfl)
theorem dX0_delay_39 : decode cX0_delay 39 = .ok (.getfield 181, 3) := dk_180 0 181 (dk_at dksX0_delay_1 15 rfl rfl)
theorem dX0_delay_42 : decode cX0_delay 42 = .ok (.iload_n 2, 1) := dk_28 (dk_at dksX0_delay_1 18 rfl rfl)
theorem dX0_delay_43 : decode cX0_delay 43 = .ok (.iadd, 1) := dk_96 (dk_at dksX0_delay_1 19 rfl rfl)
theorem dX0_delay_44 : decode cX0_delay 44 = .ok (.sipush 5999, 3) := dk_17 23 111 (dk_at dksX0_delay_1 20 rfl rfl)
theorem dX0_delay_47 : decode cX0_delay 47 = .ok (.if_icmp .le 6, 3) := dk_164 0 6 (dk_at dksX0_delay_2 0 rfl rfl)
theorem dX0_delay_50 : decode cX0_delay 50 = .ok (.bipush (-5), 2) := dk_16 251 (dk_at dksX0_delay_2 3 rfl rfl)
theorem dX0_delay_52 : decode cX0_delay 52 = .ok (.ireturn, 1) := dk_172 (dk_at dksX0_delay_2 5 rfl rfl)
theorem dX0_delay_53 : decode cX0_delay 53 = .ok (.aload_n 0, 1) := dk_42 (dk_at dksX0_delay_2 6 rfl rfl)
theorem dX0_delay_54 : decode cX0_delay 54 = .ok (.iload_n 1, 1) := dk_27 (dk_at dksX0_delay_2 7 rfl rfl)
theorem dX0_delay_55 : decode cX0_delay 55 = .ok (.invokevirtual 146, 3) := dk_182 0 146 (dk_at dksX0_delay_2 8 rfl rfl)
theorem dX0_delay_58 : decode cX0_delay 58 = .ok (.new 122, 3) := dk_187 0 122 (dk_at dksX0_delay_2 11 rfl rfl)
theorem dX0_delay_61 : decode cX0_delay 61 = .ok (.dup, 1) := dk_89 (dk_at dksX0_delay_2 14 rfl rfl)
theorem dX0_delay_62 : decode cX0_delay 62 = .ok (.aload_n 3, 1) := dk_45 (dk_at dksX0_delay_2 15 rfl rfl)
theorem dX0_delay_63 : decode cX0_delay 63 = .ok (.getfield 124, 3) := dk_180 0 124 (dk_at dksX0_delay_2 16 rfl rfl)
theorem dX0_delay_66 : decode cX0_delay 66 = .ok (.aload_n 3, 1) := dk_45 (dk_at dksX0_delay_2 19 rfl rfl)
theorem dX0_delay_67 : decode cX0_delay 67 = .ok (.getfield 127, 3) := dk_180 0 127 (dk_at dksX0_delay_2 20 rfl rfl)
theorem dX0_delay_70 : decode cX0_delay 70 = .ok (.aload_n 3, 1) := dk_45 (dk_at dksX0_delay_2 23 rfl rfl)
theorem dX0_delay_71 : decode cX0_delay 71 = .ok (.getfield 130, 3) := dk_180 0 130 (dk_at dksX0_delay_3 0 rfl rfl)
theorem dX0_delay_74 : decode cX0_delay 74 = .ok (.iload_n 2, 1) := dk_28 (dk_at dksX0_delay_3 3 rfl rfl)
theorem dX0_delay_75 : decode cX0_delay 75 = .ok (.iadd, 1) := dk_96 (dk_at dksX0_delay_3 4 rfl rfl)
theorem dX0_delay_76 : decode cX0_delay 76 = .ok (.invokespecial 133, 3) := dk_183 0 133 (dk_at dksX0_delay_3 5 rfl rfl)
theorem dX0_delay_79 : decode cX0_delay 79 = .ok (.invokevirtual 150, 3) := dk_182 0 150 (dk_at dksX0_delay_3 8 rfl rfl)
theorem dX0_delay_82 : decode cX0_delay 82 = .ok (.ifCond .eq 6, 3) := dk_153 0 6 (dk_at dksX0_delay_3 11 rfl rfl)
theorem dX0_delay_85 : decode cX0_delay 85 = .ok (.bipush (-4), 2) := dk_16 252 (dk_at dksX0_delay_3 14 rfl rfl)
theorem dX0_delay_87 : decode cX0_delay 87 = .ok (.ireturn, 1) := dk_172 (dk_at dksX0_delay_3 16 rfl rfl)
theorem dX0_delay_88 : decode cX0_delay 88 = .ok (.aload_n 0, 1) := dk_42 (dk_at dksX0_delay_3 17 rfl rfl)
theorem dX0_delay_89 : decode cX0_delay 89 = .ok (.invokevirtual 112, 3) := dk_182 0 112 (dk_at dksX0_delay_3 18 rfl rfl)
theorem dX0_delay_92 : decode cX0_delay 92 = .ok (.aload_n 3, 1) := dk_45 (dk_at dksX0_delay_3 21 rfl rfl)
theorem dX0_delay_93 : decode cX0_delay 93 = .ok (.dup, 1) := dk_89 (dk_at dksX0_delay_3 22 rfl rfl)
theorem dX0_delay_94 : decode cX0_delay 94 = .ok (.getfield 130, 3) := dk_180 0 130 (dk_at dksX0_delay_4 0 rfl rfl)
theorem dX0_delay_97 : decode cX0_delay 97 = .ok (.iload_n 2, 1) := dk_28 (dk_at dksX0_delay_4 3 rfl rfl)
theorem dX0_delay_98 : decode cX0_delay 98 = .ok (.iadd, 1) := dk_96 (dk_at dksX0_delay_4 4 rfl rfl)
theorem dX0_delay_99 : decode cX0_delay 99 = .ok (.putfield 130, 3) := dk_181 0 130 (dk_at dksX0_delay_4 5 rfl rfl)
theorem dX0_delay_102 : decode cX0_delay 102 = .ok (.aload_n 3, 1) := dk_45 (dk_at dksX0_delay_4 8 rfl rfl)
theorem dX0_delay_103 : decode cX0_delay 103 = .ok (.dup, 1) := dk_89 (dk_at dksX0_delay_4 9 rfl rfl)
theorem dX0_delay_104 : decode cX0_delay 104 = .ok (.getfield 181, 3) := dk_180 0 181 (dk_at dksX0_delay_4 10 rfl rfl)
theorem dX0_delay_107 : decode cX0_delay 107 = .ok (.iload_n 2, 1) := dk_28 (dk_at dksX0_delay_4 13 rfl rfl)
theorem dX0_delay_108 : decode cX0_delay 108 = .ok (.iadd, 1) := dk_96 (dk_at dksX0_delay_4 14 rfl rfl)
theorem dX0_delay_109 : decode cX0_delay 109 = .ok (.putfield 181, 3) := dk_181 0 181 (dk_at dksX0_delay_4 15 rfl rfl)
theorem dX0_delay_112 : decode cX0_delay 112 = .ok (.iconst 0, 1) := dk_3 (dk_at dksX0_delay_4 18 rfl rfl)
theorem dX0_delay_113 : decode cX0_delay 113 = .ok (.istore 4, 2) := dk_54 4 (dk_at dksX0_delay_4 19 rfl rfl)
theorem dX0_delay_115 : decode cX0_delay 115 = .ok (.iconst 0, 1) := dk_3 (dk_at dksX0_delay_4 21 rfl rfl)
theorem dX0_delay_116 : decode cX0_delay 116 = .ok (.istore 5, 2) := dk_54 5 (dk_at dksX0_delay_4 22 rfl rfl)
theorem dX0_delay_118 : decode cX0_delay 118 = .ok (.iload 5, 2) := dk_21 5 (dk_at dksX0_delay_5 0 rfl rfl)
theorem dX0_delay_120 : decode cX0_delay 120 = .ok (.aload_n 0, 1) := dk_42 (dk_at dksX0_delay_5 2 rfl rfl)
theorem dX0_delay_121 : decode cX0_delay 121 = .ok (.getfield 10, 3) := dk_180 0 10 (dk_at dksX0_delay_5 3 rfl rfl)
theorem dX0_delay_124 : decode cX0_delay 124 = .ok (.getfield 76, 3) := dk_180 0 76 (dk_at dksX0_delay_5 6 rfl rfl)
theorem dX0_delay_127 : decode cX0_delay 127 = .ok (.invokevirtual 66, 3) := dk_182 0 66 (dk_at dksX0_delay_5 9 rfl rfl)
theorem dX0_delay_130 : decode cX0_delay 130 = .ok (.if_icmp .ge 34, 3) := dk_162 0 34 (dk_at dksX0_delay_5 12 rfl rfl)
theorem dX0_delay_133 : decode cX0_delay 133 = .ok (.aload_n 0, 1) := dk_42 (dk_at dksX0_delay_5 15 rfl rfl)
theorem dX0_delay_134 : decode cX0_delay 134 = .ok (.iload 5, 2) := dk_21 5 (dk_at dksX0_delay_5 16 rfl rfl)
theorem dX0_delay_136 : decode cX0_delay 136 = .ok (.invokevirtual 304, 3) := dk_182 1 48 (dk_at dksX0_delay_5 18 rfl rfl)
theorem dX0_delay_139 : decode cX0_delay 139 = .ok (.iload 4, 2) := dk_21 4 (dk_at dksX0_delay_5 21 rfl rfl)
theorem dX0_delay_141 : decode cX0_delay 141 = .ok (.aload_n 0, 1) := dk_42 (dk_at dksX0_delay_5 23 rfl rfl)
theorem dX0_delay_142 : decode cX0_delay 142 = .ok (.iload 5, 2) := dk_21 5 (dk_at dksX0_delay_6 0 rfl rfl)
theorem dX0_delay_144 : decode cX0_delay 144 = .ok (.invokevirtual 286, 3) := dk_182 1 30 (dk_at dksX0_delay_6 2 rfl rfl)
theorem dX0_delay_147 : decode cX0_delay 147 = .ok (.ifCond .le 7, 3) := dk_158 0 7 (dk_at dksX0_delay_6 5 rfl rfl)
theorem dX0_delay_150 : decode cX0_delay 150 = .ok (.iconst 1, 1) := dk_4 (dk_at dksX0_delay_6 8 rfl rfl)
theorem dX0_delay_151 : decode cX0_delay 151 = .ok (.goto 4, 3) := dk_167 0 4 (dk_at dksX0_delay_6 9 rfl rfl)
theorem dX0_delay_154 : decode cX0_delay 154 = .ok (.iconst 0, 1) := dk_3 (dk_at dksX0_delay_6 12 rfl rfl)
theorem dX0_delay_155 : decode cX0_delay 155 = .ok (.iadd, 1) := dk_96 (dk_at dksX0_delay_6 13 rfl rfl)
theorem dX0_delay_156 : decode cX0_delay 156 = .ok (.istore 4, 2) := dk_54 4 (dk_at dksX0_delay_6 14 rfl rfl)
theorem dX0_delay_158 : decode cX0_delay 158 = .ok (.iinc 5 1, 3) := dk_132 5 1 (dk_at dksX0_delay_6 16 rfl rfl)
theorem dX0_delay_161 : decode cX0_delay 161 = .ok (.goto (-43), 3) := dk_167 255 213 (dk_at dksX0_delay_6 19 rfl rfl)
theorem dX0_delay_164 : decode cX0_delay 164 = .ok (.iload 4, 2) := dk_21 4 (dk_at dksX0_delay_6 22 rfl rfl)
theorem dX0_delay_166 : decode cX0_delay 166 = .ok (.ireturn, 1) := dk_172 (dk_at dksX0_delay_7 0 rfl rfl)
abbrev cX0_reorder : ByteArray := prog_1_method_65_code
def yX0_reorder : MethodName := ⟨RX0, "reorder", "(I)V"⟩
def dkwX0_reorder_2 : List UInt8 := [167, 255, 228, 42, 27, 182, 1, 21, 177]
abbrev dktX0_reorder_2 : List UInt8 := dkwX0_reorder_2 ++ []
def dkwX0_reorder_1 : List UInt8 := [162, 0, 26, 42, 44, 180, 0, 205, 29, 46, 44, 180, 0, 168, 29, 51, 182, 1, 7, 87, 132, 3, 1]
abbrev dktX0_reorder_1 : List UInt8 := dkwX0_reorder_1 ++ dktX0_reorder_2
def dkwX0_reorder_0 : List UInt8 := [42, 27, 182, 0, 160, 77, 42, 27, 182, 1, 0, 42, 3, 181, 0, 202, 3, 62, 29, 44, 180, 0, 199]
abbrev dktX0_reorder_0 : List UInt8 := dkwX0_reorder_0 ++ dktX0_reorder_1
theorem dksX0_reorder_0 : cX0_reorder.data.toList.drop 0 = dktX0_reorder_0 := by decide +kernel
theorem dksX0_reorder_1 : cX0_reorder.data.toList.drop 23 = dktX0_reorder_1 := dk_seg dksX0_reorder_0 23 rfl rfl
theorem dksX0_reorder_2 : cX0_reorder.data.toList.drop 46 = dktX0_reorder_2 := dk_seg dksX0_reorder_1 23 rfl rfl
theorem dX0_reorder_0 : decode cX0_reorder 0 = .ok (.aload_n 0, 1) := dk_42 (dk_at dksX0_reorder_0 0 rfl rfl)
theorem dX0_reorder_1 : decode cX0_reorder 1 = .ok (.iload_n 1, 1) := dk_27 (dk_at dksX0_reorder_0 1 rfl rfl)
theorem dX0_reorder_2 : decode cX0_reorder 2 = .ok (.invokevirtual 160, 3) := dk_182 0 160 (dk_at dksX0_reorder_0 2 rfl rfl)
theorem dX0_reorder_5 : decode cX0_reorder 5 = .ok (.astore_n 2, 1) := dk_77 (dk_at dksX0_reorder_0 5 rfl rfl)
theorem dX0_reorder_6 : decode cX0_reorder 6 = .ok (.aload_n 0, 1) := dk_42 (dk_at dksX0_reorder_0 6 rfl rfl)
theorem dX0_reorder_7 : decode cX0_reorder 7 = .ok (.iload_n 1, 1) := dk_27 (dk_at dksX0_reorder_0 7 rfl rfl)
theorem dX0_reorder_8 : decode cX0_reorder 8 = .ok (.invokevirtual 256, 3) := dk_182 1 0 (dk_at dksX0_reorder_0 8 rfl rfl)
theorem dX0_reorder_11 : decode cX0_reorder 11 = .ok (.aload_n 0, 1) := dk_42 (dk_at dksX0_reorder_0 11 rfl rfl)
theorem dX0_reorder_12 : decode cX0_reorder 12 = .ok (.iconst 0, 1) := dk_3 (dk_at dksX0_reorder_0 12 rfl rfl)
theorem dX0_reorder_13 : decode cX0_reorder 13 = .ok (.putfield 202, 3) := dk_181 0 202 (dk_at dksX0_reorder_0 13 rfl rfl)
theorem dX0_reorder_16 : decode cX0_reorder 16 = .ok (.iconst 0, 1) := dk_3 (dk_at dksX0_reorder_0 16 rfl rfl)
theorem dX0_reorder_17 : decode cX0_reorder 17 = .ok (.istore_n 3, 1) := dk_62 (dk_at dksX0_reorder_0 17 rfl rfl)
theorem dX0_reorder_18 : decode cX0_reorder 18 = .ok (.iload_n 3, 1) := dk_29 (dk_at dksX0_reorder_0 18 rfl rfl)
theorem dX0_reorder_19 : decode cX0_reorder 19 = .ok (.aload_n 2, 1) := dk_44 (dk_at dksX0_reorder_0 19 rfl rfl)
theorem dX0_reorder_20 : decode cX0_reorder 20 = .ok (.getfield 199, 3) := dk_180 0 199 (dk_at dksX0_reorder_0 20 rfl rfl)
theorem dX0_reorder_23 : decode cX0_reorder 23 = .ok (.if_icmp .ge 26, 3) := dk_162 0 26 (dk_at dksX0_reorder_1 0 rfl rfl)
theorem dX0_reorder_26 : decode cX0_reorder 26 = .ok (.aload_n 0, 1) := dk_42 (dk_at dksX0_reorder_1 3 rfl rfl)
theorem dX0_reorder_27 : decode cX0_reorder 27 = .ok (.aload_n 2, 1) := dk_44 (dk_at dksX0_reorder_1 4 rfl rfl)
theorem dX0_reorder_28 : decode cX0_reorder 28 = .ok (.getfield 205, 3) := dk_180 0 205 (dk_at dksX0_reorder_1 5 rfl rfl)
theorem dX0_reorder_31 : decode cX0_reorder 31 = .ok (.iload_n 3, 1) := dk_29 (dk_at dksX0_reorder_1 8 rfl rfl)
theorem dX0_reorder_32 : decode cX0_reorder 32 = .ok (.iaload, 1) := dk_46 (dk_at dksX0_reorder_1 9 rfl rfl)
theorem dX0_reorder_33 : decode cX0_reorder 33 = .ok (.aload_n 2, 1) := dk_44 (dk_at dksX0_reorder_1 10 rfl rfl)
theorem dX0_reorder_34 : decode cX0_reorder 34 = .ok (.getfield 168, 3) := dk_180 0 168 (dk_at dksX0_reorder_1 11 rfl rfl)
theorem dX0_reorder_37 : decode cX0_reorder 37 = .ok (.iload_n 3, 1) := dk_29 (dk_at dksX0_reorder_1 14 rfl rfl)
theorem dX0_reorder_38 : decode cX0_reorder 38 = .ok (.baload, 1) := dk_51 (dk_at dksX0_reorder_1 15 rfl rfl)
theorem dX0_reorder_39 : decode cX0_reorder 39 = .ok (.invokevirtual 263, 3) := dk_182 1 7 (dk_at dksX0_reorder_1 16 rfl rfl)
theorem dX0_reorder_42 : decode cX0_reorder 42 = .ok (.pop, 1) := dk_87 (dk_at dksX0_reorder_1 19 rfl rfl)
theorem dX0_reorder_43 : decode cX0_reorder 43 = .ok (.iinc 3 1, 3) := dk_132 3 1 (dk_at dksX0_reorder_1 20 rfl rfl)
theorem dX0_reorder_46 : decode cX0_reorder 46 = .ok (.goto (-28), 3) := dk_167 255 228 (dk_at dksX0_reorder_2 0 rfl rfl)
theorem dX0_reorder_49 : decode cX0_reorder 49 = .ok (.aload_n 0, 1) := dk_42 (dk_at dksX0_reorder_2 3 rfl rfl)
theorem dX0_reorder_50 : decode cX0_reorder 50 = .ok (.iload_n 1, 1) := dk_27 (dk_at dksX0_reorder_2 4 rfl rfl)
theorem dX0_reorder_51 : decode cX0_reorder 51 = .ok (.invokevirtual 277, 3) := dk_182 1 21 (dk_at dksX0_reorder_2 5 rfl rfl)
theorem dX0_reorder_54 : decode cX0_reorder 54 = .ok (.return_, 1) := dk_177 (dk_at dksX0_reorder_2 8 rfl rfl)
abbrev cX0_cancel : ByteArray := prog_1_method_67_code
def yX0_cancel : MethodName := ⟨RX0, "cancel", "(I)I"⟩
def dkwX0_cancel_3 : List UInt8 := [155, 0, 16, 42, 29, 182, 0, 160, 21, 4, 182, 1, 27, 132, 2, 1, 132, 3, 1, 167, 255, 210, 28, 172]
abbrev dktX0_cancel_3 : List UInt8 := dkwX0_cancel_3 ++ []
def dkwX0_cancel_2 : List UInt8 := [180, 0, 76, 182, 0, 66, 162, 0, 38, 42, 29, 182, 0, 160, 27, 182, 0, 164, 54, 4, 21, 4]
abbrev dktX0_cancel_2 : List UInt8 := dkwX0_cancel_2 ++ dktX0_cancel_3
def dkwX0_cancel_1 : List UInt8 := [42, 182, 0, 112, 42, 27, 182, 0, 118, 4, 181, 0, 171, 3, 61, 3, 62, 29, 42, 180, 0, 10]
abbrev dktX0_cancel_1 : List UInt8 := dkwX0_cancel_1 ++ dktX0_cancel_2
def dkwX0_cancel_0 : List UInt8 := [42, 27, 182, 0, 177, 154, 0, 5, 2, 172, 42, 27, 182, 0, 118, 180, 0, 171, 153, 0, 6, 16, 254, 172]
abbrev dktX0_cancel_0 : List UInt8 := dkwX0_cancel_0 ++ dktX0_cancel_1
theorem dksX0_cancel_0 : cX0_cancel.data.toList.drop 0 = dktX0_cancel_0 := by decide +kernel
theorem dksX0_cancel_1 : cX0_cancel.data.toList.drop 24 = dktX0_cancel_1 := dk_seg dksX0_cancel_0 24 rfl rfl
theorem dksX0_cancel_2 : cX0_cancel.data.toList.drop 46 = dktX0_cancel_2 := dk_seg dksX0_cancel_1 22 rfl rfl
theorem dksX0_cancel_3 : cX0_cancel.data.toList.drop 68 = dktX0_cancel_3 := dk_seg dksX0_cancel_2 22 rfl rfl
theorem dX0_cancel_0 : decode cX0_cancel 0 = .ok (.aload_n 0, 1) := dk_42 (dk_at dksX0_cancel_0 0 rfl rfl)
theorem dX0_cancel_1 : decode cX0_cancel 1 = .ok (.iload_n 1, 1) := dk_27 (dk_at dksX0_cancel_0 1 rfl rfl)
theorem dX0_cancel_2 : decode cX0_cancel 2 = .ok (.invokevirtual 177, 3) := dk_182 0 177 (dk_at dksX0_cancel_0 2 rfl rfl)
theorem dX0_cancel_5 : decode cX0_cancel 5 = .ok (.ifCond .ne 5, 3) := dk_154 0 5 (dk_at dksX0_cancel_0 5 rfl rfl)
theorem dX0_cancel_8 : decode cX0_cancel 8 = .ok (.iconst (-1), 1) := dk_2 (dk_at dksX0_cancel_0 8 rfl rfl)
theorem dX0_cancel_9 : decode cX0_cancel 9 = .ok (.ireturn, 1) := dk_172 (dk_at dksX0_cancel_0 9 rfl rfl)
theorem dX0_cancel_10 : decode cX0_cancel 10 = .ok (.aload_n 0, 1) := dk_42 (dk_at dksX0_cancel_0 10 rfl rfl)
theorem dX0_cancel_11 : decode cX0_cancel 11 = .ok (.iload_n 1, 1) := dk_27 (dk_at dksX0_cancel_0 11 rfl rfl)
theorem dX0_cancel_12 : decode cX0_cancel 12 = .ok (.invokevirtual 118, 3) := dk_182 0 118 (dk_at dksX0_cancel_0 12 rfl rfl)
theorem dX0_cancel_15 : decode cX0_cancel 15 = .ok (.getfield 171, 3) := dk_180 0 171 (dk_at dksX0_cancel_0 15 rfl rfl)
theorem dX0_cancel_18 : decode cX0_cancel 18 = .ok (.ifCond .eq 6, 3) := dk_153 0 6 (dk_at dksX0_cancel_0 18 rfl rfl)
theorem dX0_cancel_21 : decode cX0_cancel 21 = .ok (.bipush (-2), 2) := dk_16 254 (dk_at dksX0_cancel_0 21 rfl rfl)
theorem dX0_cancel_23 : decode cX0_cancel 23 = .ok (.ireturn, 1) := dk_172 (dk_at dksX0_cancel_0 23 rfl rfl)
theorem dX0_cancel_24 : decode cX0_cancel 24 = .ok (.aload_n 0, 1) := dk_42 (dk_at dksX0_cancel_1 0 rfl rfl)
theorem dX0_cancel_25 : decode cX0_cancel 25 = .ok (.invokevirtual 112, 3) := dk_182 0 112 (dk_at dksX0_cancel_1 1 rfl rfl)
theorem dX0_cancel_28 : decode cX0_cancel 28 = .ok (.aload_n 0, 1) := dk_42 (dk_at dksX0_cancel_1 4 rfl rfl)
theorem dX0_cancel_29 : decode cX0_cancel 29 = .ok (.iload_n 1, 1) := dk_27 (dk_at dksX0_cancel_1 5 rfl rfl)
theorem dX0_cancel_30 : decode cX0_cancel 30 = .ok (.invokevirtual 118, 3) := dk_182 0 118 (dk_at dksX0_cancel_1 6 rfl rfl)
theorem dX0_cancel_33 : decode cX0_cancel 33 = .ok (.iconst 1, 1) := dk_4 (dk_at dksX0_cancel_1 9 rfl rfl)
theorem dX0_cancel_34 : decode cX0_cancel 34 = .ok (.putfield 171, 3) := dk_181 0 171 (dk_at dksX0_cancel_1 10 rfl rfl)
theorem dX0_cancel_37 : decode cX0_cancel 37 = .ok (.iconst 0, 1) := dk_3 (dk_at dksX0_cancel_1 13 rfl rfl)
theorem dX0_cancel_38 : decode cX0_cancel 38 = .ok (.istore_n 2, 1) := dk_61 (dk_at dksX0_cancel_1 14 rfl rfl)
theorem dX0_cancel_39 : decode cX0_cancel 39 = .ok (.iconst 0, 1) := dk_3 (dk_at dksX0_cancel_1 15 rfl rfl)
theorem dX0_cancel_40 : decode cX0_cancel 40 = .ok (.istore_n 3, 1) := dk_62 (dk_at dksX0_cancel_1 16 rfl rfl)
theorem dX0_cancel_41 : decode cX0_cancel 41 = .ok (.iload_n 3, 1) := dk_29 (dk_at dksX0_cancel_1 17 rfl rfl)
theorem dX0_cancel_42 : decode cX0_cancel 42 = .ok (.aload_n 0, 1) := dk_42 (dk_at dksX0_cancel_1 18 rfl rfl)
theorem dX0_cancel_43 : decode cX0_cancel 43 = .ok (.getfield 10, 3) := dk_180 0 10 (dk_at dksX0_cancel_1 19 rfl rfl)
theorem dX0_cancel_46 : decode cX0_cancel 46 = .ok (.getfield 76, 3) := dk_180 0 76 (dk_at dksX0_cancel_2 0 rfl rfl)
theorem dX0_cancel_49 : decode cX0_cancel 49 = .ok (.invokevirtual 66, 3) := dk_182 0 66 (dk_at dksX0_cancel_2 3 rfl rfl)
theorem dX0_cancel_52 : decode cX0_cancel 52 = .ok (.if_icmp .ge 38, 3) := dk_162 0 38 (dk_at dksX0_cancel_2 6 rfl rfl)
theorem dX0_cancel_55 : decode cX0_cancel 55 = .ok (.aload_n 0, 1) := dk_42 (dk_at dksX0_cancel_2 9 rfl rfl)
theorem dX0_cancel_56 : decode cX0_cancel 56 = .ok (.iload_n 3, 1) := dk_29 (dk_at dksX0_cancel_2 10 rfl rfl)
theorem dX0_cancel_57 : decode cX0_cancel 57 = .ok (.invokevirtual 160, 3) := dk_182 0 160 (dk_at dksX0_cancel_2 11 rfl rfl)
theorem dX0_cancel_60 : decode cX0_cancel 60 = .ok (.iload_n 1, 1) := dk_27 (dk_at dksX0_cancel_2 14 rfl rfl)
theorem dX0_cancel_61 : decode cX0_cancel 61 = .ok (.invokevirtual 164, 3) := dk_182 0 164 (dk_at dksX0_cancel_2 15 rfl rfl)
theorem dX0_cancel_64 : decode cX0_cancel 64 = .ok (.istore 4, 2) := dk_54 4 (dk_at dksX0_cancel_2 18 rfl rfl)
theorem dX0_cancel_66 : decode cX0_cancel 66 = .ok (.iload 4, 2) := dk_21 4 (dk_at dksX0_cancel_2 20 rfl rfl)
theorem dX0_cancel_68 : decode cX0_cancel 68 = .ok (.ifCond .lt 16, 3) := dk_155 0 16 (dk_at dksX0_cancel_3 0 rfl rfl)
theorem dX0_cancel_71 : decode cX0_cancel 71 = .ok (.aload_n 0, 1) := dk_42 (dk_at dksX0_cancel_3 3 rfl rfl)
theorem dX0_cancel_72 : decode cX0_cancel 72 = .ok (.iload_n 3, 1) := dk_29 (dk_at dksX0_cancel_3 4 rfl rfl)
theorem dX0_cancel_73 : decode cX0_cancel 73 = .ok (.invokevirtual 160, 3) := dk_182 0 160 (dk_at dksX0_cancel_3 5 rfl rfl)
theorem dX0_cancel_76 : decode cX0_cancel 76 = .ok (.iload 4, 2) := dk_21 4 (dk_at dksX0_cancel_3 8 rfl rfl)
theorem dX0_cancel_78 : decode cX0_cancel 78 = .ok (.invokevirtual 283, 3) := dk_182 1 27 (dk_at dksX0_cancel_3 10 rfl rfl)
theorem dX0_cancel_81 : decode cX0_cancel 81 = .ok (.iinc 2 1, 3) := dk_132 2 1 (dk_at dksX0_cancel_3 13 rfl rfl)
theorem dX0_cancel_84 : decode cX0_cancel 84 = .ok (.iinc 3 1, 3) := dk_132 3 1 (dk_at dksX0_cancel_3 16 rfl rfl)
theorem dX0_cancel_87 : decode cX0_cancel 87 = .ok (.goto (-46), 3) := dk_167 255 210 (dk_at dksX0_cancel_3 19 rfl rfl)
theorem dX0_cancel_90 : decode cX0_cancel 90 = .ok (.iload_n 2, 1) := dk_28 (dk_at dksX0_cancel_3 22 rfl rfl)
theorem dX0_cancel_91 : decode cX0_cancel 91 = .ok (.ireturn, 1) := dk_172 (dk_at dksX0_cancel_3 23 rfl rfl)
abbrev cX0_setReserve : ByteArray := prog_1_method_68_code
def yX0_setReserve : MethodName := ⟨RX0, "setReserve", "(III)I"⟩
def dkwX0_setReserve_3 : List UInt8 := [172]
abbrev dktX0_setReserve_3 : List UInt8 := dkwX0_setReserve_3 ++ []
def dkwX0_setReserve_2 : List UInt8 := [153, 0, 7, 4, 167, 0, 4, 3, 54, 5, 25, 4, 28, 181, 1, 54, 25, 4, 29, 181, 1, 57, 21, 5]
abbrev dktX0_setReserve_2 : List UInt8 := dkwX0_setReserve_2 ++ dktX0_setReserve_3
def dkwX0_setReserve_1 : List UInt8 := [184, 0, 72, 154, 0, 5, 2, 172, 42, 182, 0, 112, 42, 27, 182, 0, 160, 58, 4, 25, 4, 182, 1, 51]
abbrev dktX0_setReserve_1 : List UInt8 := dkwX0_setReserve_1 ++ dktX0_setReserve_2
def dkwX0_setReserve_0 : List UInt8 := [42, 27, 182, 1, 14, 153, 0, 25, 28, 3, 17, 23, 111, 184, 0, 72, 153, 0, 14, 29, 28, 17, 23, 112]
abbrev dktX0_setReserve_0 : List UInt8 := dkwX0_setReserve_0 ++ dktX0_setReserve_1
theorem dksX0_setReserve_0 : cX0_setReserve.data.toList.drop 0 = dktX0_setReserve_0 := by decide +kernel
theorem dksX0_setReserve_1 : cX0_setReserve.data.toList.drop 24 = dktX0_setReserve_1 := dk_seg dksX0_setReserve_0 24 rfl rfl
theorem dksX0_setReserve_2 : cX0_setReserve.data.toList.drop 48 = dktX0_setReserve_2 := dk_seg dksX0_setReserve_1 24 rfl rfl
theorem dksX0_setReserve_3 : cX0_setReserve.data.toList.drop 72 = dktX0_setReserve_3 := dk_seg dksX0_setReserve_2 24 rfl rfl
theorem dX0_setReserve_0 : decode cX0_setReserve 0 = .ok (.aload_n 0, 1) := dk_42 (dk_at dksX0_setReserve_0 0 rfl rfl)
theorem dX0_setReserve_1 : decode cX0_setReserve 1 = .ok (.iload_n 1, 1) := dk_27 (dk_at dksX0_setReserve_0 1 rfl rfl)
theorem dX0_setReserve_2 : decode cX0_setReserve 2 = .ok (.invokevirtual 270, 3) := dk_182 1 14 (dk_at dksX0_setReserve_0 2 rfl rfl)
theorem dX0_setReserve_5 : decode cX0_setReserve 5 = .ok (.ifCond .eq 25, 3) := dk_153 0 25 (dk_at dksX0_setReserve_0 5 rfl rfl)
theorem dX0_setReserve_8 : decode cX0_setReserve 8 = .ok (.iload_n 2, 1) := dk_28 (dk_at dksX0_setReserve_0 8 rfl rfl)
theorem dX0_setReserve_9 : decode cX0_setReserve 9 = .ok (.iconst 0, 1) := dk_3 (dk_at dksX0_setReserve_0 9 rfl rfl)
theorem dX0_setReserve_10 : decode cX0_setReserve 10 = .ok (.sipush 5999, 3) := dk_17 23 111 (dk_at dksX0_setReserve_0 10 rfl rfl)
theorem dX0_setReserve_13 : decode cX0_setReserve 13 = .ok (.invokestatic 72, 3) := dk_184 0 72 (dk_at dksX0_setReserve_0 13 rfl rfl)
theorem dX0_setReserve_16 : decode cX0_setReserve 16 = .ok (.ifCond .eq 14, 3) := dk_153 0 14 (dk_at dksX0_setReserve_0 16 rfl rfl)
theorem dX0_setReserve_19 : decode cX0_setReserve 19 = .ok (.iload_n 3, 1) := dk_29 (dk_at dksX0_setReserve_0 19 rfl rfl)
theorem dX0_setReserve_20 : decode cX0_setReserve 20 = .ok (.iload_n 2, 1) := dk_28 (dk_at dksX0_setReserve_0 20 rfl rfl)
theorem dX0_setReserve_21 : decode cX0_setReserve 21 = .ok (.sipush 6000, 3) := dk_17 23 112 (dk_at dksX0_setReserve_0 21 rfl rfl)
theorem dX0_setReserve_24 : decode cX0_setReserve 24 = .ok (.invokestatic 72, 3) := dk_184 0 72 (dk_at dksX0_setReserve_1 0 rfl rfl)
theorem dX0_setReserve_27 : decode cX0_setReserve 27 = .ok (.ifCond .ne 5, 3) := dk_154 0 5 (dk_at dksX0_setReserve_1 3 rfl rfl)
theorem dX0_setReserve_30 : decode cX0_setReserve 30 = .ok (.iconst (-1), 1) := dk_2 (dk_at dksX0_setReserve_1 6 rfl rfl)
theorem dX0_setReserve_31 : decode cX0_setReserve 31 = .ok (.ireturn, 1) := dk_172 (dk_at dksX0_setReserve_1 7 rfl rfl)
theorem dX0_setReserve_32 : decode cX0_setReserve 32 = .ok (.aload_n 0, 1) := dk_42 (dk_at dksX0_setReserve_1 8 rfl rfl)
theorem dX0_setReserve_33 : decode cX0_setReserve 33 = .ok (.invokevirtual 112, 3) := dk_182 0 112 (dk_at dksX0_setReserve_1 9 rfl rfl)
theorem dX0_setReserve_36 : decode cX0_setReserve 36 = .ok (.aload_n 0, 1) := dk_42 (dk_at dksX0_setReserve_1 12 rfl rfl)
theorem dX0_setReserve_37 : decode cX0_setReserve 37 = .ok (.iload_n 1, 1) := dk_27 (dk_at dksX0_setReserve_1 13 rfl rfl)
theorem dX0_setReserve_38 : decode cX0_setReserve 38 = .ok (.invokevirtual 160, 3) := dk_182 0 160 (dk_at dksX0_setReserve_1 14 rfl rfl)
theorem dX0_setReserve_41 : decode cX0_setReserve 41 = .ok (.astore 4, 2) := dk_58 4 (dk_at dksX0_setReserve_1 17 rfl rfl)
theorem dX0_setReserve_43 : decode cX0_setReserve 43 = .ok (.aload 4, 2) := dk_25 4 (dk_at dksX0_setReserve_1 19 rfl rfl)
theorem dX0_setReserve_45 : decode cX0_setReserve 45 = .ok (.invokevirtual 307, 3) := dk_182 1 51 (dk_at dksX0_setReserve_1 21 rfl rfl)
theorem dX0_setReserve_48 : decode cX0_setReserve 48 = .ok (.ifCond .eq 7, 3) := dk_153 0 7 (dk_at dksX0_setReserve_2 0 rfl rfl)
theorem dX0_setReserve_51 : decode cX0_setReserve 51 = .ok (.iconst 1, 1) := dk_4 (dk_at dksX0_setReserve_2 3 rfl rfl)
theorem dX0_setReserve_52 : decode cX0_setReserve 52 = .ok (.goto 4, 3) := dk_167 0 4 (dk_at dksX0_setReserve_2 4 rfl rfl)
theorem dX0_setReserve_55 : decode cX0_setReserve 55 = .ok (.iconst 0, 1) := dk_3 (dk_at dksX0_setReserve_2 7 rfl rfl)
theorem dX0_setReserve_56 : decode cX0_setReserve 56 = .ok (.istore 5, 2) := dk_54 5 (dk_at dksX0_setReserve_2 8 rfl rfl)
theorem dX0_setReserve_58 : decode cX0_setReserve 58 = .ok (.aload 4, 2) := dk_25 4 (dk_at dksX0_setReserve_2 10 rfl rfl)
theorem dX0_setReserve_60 : decode cX0_setReserve 60 = .ok (.iload_n 2, 1) := dk_28 (dk_at dksX0_setReserve_2 12 rfl rfl)
theorem dX0_setReserve_61 : decode cX0_setReserve 61 = .ok (.putfield 310, 3) := dk_181 1 54 (dk_at dksX0_setReserve_2 13 rfl rfl)
theorem dX0_setReserve_64 : decode cX0_setReserve 64 = .ok (.aload 4, 2) := dk_25 4 (dk_at dksX0_setReserve_2 16 rfl rfl)
theorem dX0_setReserve_66 : decode cX0_setReserve 66 = .ok (.iload_n 3, 1) := dk_29 (dk_at dksX0_setReserve_2 18 rfl rfl)
theorem dX0_setReserve_67 : decode cX0_setReserve 67 = .ok (.putfield 313, 3) := dk_181 1 57 (dk_at dksX0_setReserve_2 19 rfl rfl)
theorem dX0_setReserve_70 : decode cX0_setReserve 70 = .ok (.iload 5, 2) := dk_21 5 (dk_at dksX0_setReserve_2 22 rfl rfl)
theorem dX0_setReserve_72 : decode cX0_setReserve 72 = .ok (.ireturn, 1) := dk_172 (dk_at dksX0_setReserve_3 0 rfl rfl)
abbrev cX0_reserve : ByteArray := prog_1_method_69_code
def yX0_reserve : MethodName := ⟨RX0, "reserve", "(II)I"⟩
def dkwX0_reserve_2 : List UInt8 := [45, 180, 1, 57, 172]
abbrev dktX0_reserve_2 : List UInt8 := dkwX0_reserve_2 ++ []
def dkwX0_reserve_1 : List UInt8 := [78, 45, 182, 1, 51, 154, 0, 8, 16, 254, 167, 0, 18, 28, 154, 0, 10, 45, 180, 1, 54, 167, 0, 7]
abbrev dktX0_reserve_1 : List UInt8 := dkwX0_reserve_1 ++ dktX0_reserve_2
def dkwX0_reserve_0 : List UInt8 := [42, 27, 182, 1, 14, 153, 0, 12, 28, 3, 4, 184, 0, 72, 154, 0, 5, 2, 172, 42, 27, 182, 0, 160]
abbrev dktX0_reserve_0 : List UInt8 := dkwX0_reserve_0 ++ dktX0_reserve_1
theorem dksX0_reserve_0 : cX0_reserve.data.toList.drop 0 = dktX0_reserve_0 := by decide +kernel
theorem dksX0_reserve_1 : cX0_reserve.data.toList.drop 24 = dktX0_reserve_1 := dk_seg dksX0_reserve_0 24 rfl rfl
theorem dksX0_reserve_2 : cX0_reserve.data.toList.drop 48 = dktX0_reserve_2 := dk_seg dksX0_reserve_1 24 rfl rfl
theorem dX0_reserve_0 : decode cX0_reserve 0 = .ok (.aload_n 0, 1) := dk_42 (dk_at dksX0_reserve_0 0 rfl rfl)
theorem dX0_reserve_1 : decode cX0_reserve 1 = .ok (.iload_n 1, 1) := dk_27 (dk_at dksX0_reserve_0 1 rfl rfl)
theorem dX0_reserve_2 : decode cX0_reserve 2 = .ok (.invokevirtual 270, 3) := dk_182 1 14 (dk_at dksX0_reserve_0 2 rfl rfl)
theorem dX0_reserve_5 : decode cX0_reserve 5 = .ok (.ifCond .eq 12, 3) := dk_153 0 12 (dk_at dksX0_reserve_0 5 rfl rfl)
theorem dX0_reserve_8 : decode cX0_reserve 8 = .ok (.iload_n 2, 1) := dk_28 (dk_at dksX0_reserve_0 8 rfl rfl)
theorem dX0_reserve_9 : decode cX0_reserve 9 = .ok (.iconst 0, 1) := dk_3 (dk_at dksX0_reserve_0 9 rfl rfl)
theorem dX0_reserve_10 : decode cX0_reserve 10 = .ok (.iconst 1, 1) := dk_4 (dk_at dksX0_reserve_0 10 rfl rfl)
theorem dX0_reserve_11 : decode cX0_reserve 11 = .ok (.invokestatic 72, 3) := dk_184 0 72 (dk_at dksX0_reserve_0 11 rfl rfl)
theorem dX0_reserve_14 : decode cX0_reserve 14 = .ok (.ifCond .ne 5, 3) := dk_154 0 5 (dk_at dksX0_reserve_0 14 rfl rfl)
theorem dX0_reserve_17 : decode cX0_reserve 17 = .ok (.iconst (-1), 1) := dk_2 (dk_at dksX0_reserve_0 17 rfl rfl)
theorem dX0_reserve_18 : decode cX0_reserve 18 = .ok (.ireturn, 1) := dk_172 (dk_at dksX0_reserve_0 18 rfl rfl)
theorem dX0_reserve_19 : decode cX0_reserve 19 = .ok (.aload_n 0, 1) := dk_42 (dk_at dksX0_reserve_0 19 rfl rfl)
theorem dX0_reserve_20 : decode cX0_reserve 20 = .ok (.iload_n 1, 1) := dk_27 (dk_at dksX0_reserve_0 20 rfl rfl)
theorem dX0_reserve_21 : decode cX0_reserve 21 = .ok (.invokevirtual 160, 3) := dk_182 0 160 (dk_at dksX0_reserve_0 21 rfl rfl)
theorem dX0_reserve_24 : decode cX0_reserve 24 = .ok (.astore_n 3, 1) := dk_78 (dk_at dksX0_reserve_1 0 rfl rfl)
theorem dX0_reserve_25 : decode cX0_reserve 25 = .ok (.aload_n 3, 1) := dk_45 (dk_at dksX0_reserve_1 1 rfl rfl)
theorem dX0_reserve_26 : decode cX0_reserve 26 = .ok (.invokevirtual 307, 3) := dk_182 1 51 (dk_at dksX0_reserve_1 2 rfl rfl)
theorem dX0_reserve_29 : decode cX0_reserve 29 = .ok (.ifCond .ne 8, 3) := dk_154 0 8 (dk_at dksX0_reserve_1 5 rfl rfl)
theorem dX0_reserve_32 : decode cX0_reserve 32 = .ok (.bipush (-2), 2) := dk_16 254 (dk_at dksX0_reserve_1 8 rfl rfl)
theorem dX0_reserve_34 : decode cX0_reserve 34 = .ok (.goto 18, 3) := dk_167 0 18 (dk_at dksX0_reserve_1 10 rfl rfl)
theorem dX0_reserve_37 : decode cX0_reserve 37 = .ok (.iload_n 2, 1) := dk_28 (dk_at dksX0_reserve_1 13 rfl rfl)
theorem dX0_reserve_38 : decode cX0_reserve 38 = .ok (.ifCond .ne 10, 3) := dk_154 0 10 (dk_at dksX0_reserve_1 14 rfl rfl)
theorem dX0_reserve_41 : decode cX0_reserve 41 = .ok (.aload_n 3, 1) := dk_45 (dk_at dksX0_reserve_1 17 rfl rfl)
theorem dX0_reserve_42 : decode cX0_reserve 42 = .ok (.getfield 310, 3) := dk_180 1 54 (dk_at dksX0_reserve_1 18 rfl rfl)
theorem dX0_reserve_45 : decode cX0_reserve 45 = .ok (.goto 7, 3) := dk_167 0 7 (dk_at dksX0_reserve_1 21 rfl rfl)
theorem dX0_reserve_48 : decode cX0_reserve 48 = .ok (.aload_n 3, 1) := dk_45 (dk_at dksX0_reserve_2 0 rfl rfl)
theorem dX0_reserve_49 : decode cX0_reserve 49 = .ok (.getfield 313, 3) := dk_180 1 57 (dk_at dksX0_reserve_2 1 rfl rfl)
theorem dX0_reserve_52 : decode cX0_reserve 52 = .ok (.ireturn, 1) := dk_172 (dk_at dksX0_reserve_2 4 rfl rfl)
abbrev cX0_called : ByteArray := prog_1_method_72_code
def yX0_called : MethodName := ⟨RX0, "called", "(I)I"⟩
def dkwX0_called_1 : List UInt8 := [167, 0, 5, 16, 254, 172]
abbrev dktX0_called_1 : List UInt8 := dkwX0_called_1 ++ []
def dkwX0_called_0 : List UInt8 := [42, 27, 182, 0, 177, 154, 0, 5, 2, 172, 42, 27, 182, 1, 42, 153, 0, 11, 42, 27, 182, 1, 79]
abbrev dktX0_called_0 : List UInt8 := dkwX0_called_0 ++ dktX0_called_1
theorem dksX0_called_0 : cX0_called.data.toList.drop 0 = dktX0_called_0 := by decide +kernel
theorem dksX0_called_1 : cX0_called.data.toList.drop 23 = dktX0_called_1 := dk_seg dksX0_called_0 23 rfl rfl
theorem dX0_called_0 : decode cX0_called 0 = .ok (.aload_n 0, 1) := dk_42 (dk_at dksX0_called_0 0 rfl rfl)
theorem dX0_called_1 : decode cX0_called 1 = .ok (.iload_n 1, 1) := dk_27 (dk_at dksX0_called_0 1 rfl rfl)
theorem dX0_called_2 : decode cX0_called 2 = .ok (.invokevirtual 177, 3) := dk_182 0 177 (dk_at dksX0_called_0 2 rfl rfl)
theorem dX0_called_5 : decode cX0_called 5 = .ok (.ifCond .ne 5, 3) := dk_154 0 5 (dk_at dksX0_called_0 5 rfl rfl)
theorem dX0_called_8 : decode cX0_called 8 = .ok (.iconst (-1), 1) := dk_2 (dk_at dksX0_called_0 8 rfl rfl)
theorem dX0_called_9 : decode cX0_called 9 = .ok (.ireturn, 1) := dk_172 (dk_at dksX0_called_0 9 rfl rfl)
theorem dX0_called_10 : decode cX0_called 10 = .ok (.aload_n 0, 1) := dk_42 (dk_at dksX0_called_0 10 rfl rfl)
theorem dX0_called_11 : decode cX0_called 11 = .ok (.iload_n 1, 1) := dk_27 (dk_at dksX0_called_0 11 rfl rfl)
theorem dX0_called_12 : decode cX0_called 12 = .ok (.invokevirtual 298, 3) := dk_182 1 42 (dk_at dksX0_called_0 12 rfl rfl)
theorem dX0_called_15 : decode cX0_called 15 = .ok (.ifCond .eq 11, 3) := dk_153 0 11 (dk_at dksX0_called_0 15 rfl rfl)
theorem dX0_called_18 : decode cX0_called 18 = .ok (.aload_n 0, 1) := dk_42 (dk_at dksX0_called_0 18 rfl rfl)
theorem dX0_called_19 : decode cX0_called 19 = .ok (.iload_n 1, 1) := dk_27 (dk_at dksX0_called_0 19 rfl rfl)
theorem dX0_called_20 : decode cX0_called 20 = .ok (.invokevirtual 335, 3) := dk_182 1 79 (dk_at dksX0_called_0 20 rfl rfl)
theorem dX0_called_23 : decode cX0_called 23 = .ok (.goto 5, 3) := dk_167 0 5 (dk_at dksX0_called_1 0 rfl rfl)
theorem dX0_called_26 : decode cX0_called 26 = .ok (.bipush (-2), 2) := dk_16 254 (dk_at dksX0_called_1 3 rfl rfl)
theorem dX0_called_28 : decode cX0_called 28 = .ok (.ireturn, 1) := dk_172 (dk_at dksX0_called_1 5 rfl rfl)
abbrev cX0_reserveFor : ByteArray := prog_1_method_71_code
def yX0_reserveFor : MethodName := ⟨RX0, "reserveFor", "(I)I"⟩
def dkwX0_reserveFor_3 : List UInt8 := [44, 180, 1, 73, 192, 1, 66, 180, 1, 76, 172]
abbrev dktX0_reserveFor_3 : List UInt8 := dkwX0_reserveFor_3 ++ []
def dkwX0_reserveFor_2 : List UInt8 := [183, 1, 68, 182, 1, 69, 132, 3, 1, 167, 255, 210, 44, 180, 1, 73, 199, 0, 8, 16, 254, 167, 0, 13]
abbrev dktX0_reserveFor_2 : List UInt8 := dkwX0_reserveFor_2 ++ dktX0_reserveFor_3
def dkwX0_reserveFor_1 : List UInt8 := [42, 29, 27, 182, 1, 63, 153, 0, 23, 44, 187, 1, 66, 89, 29, 16, 254, 3, 42, 29, 182, 1, 33]
abbrev dktX0_reserveFor_1 : List UInt8 := dkwX0_reserveFor_1 ++ dktX0_reserveFor_2
def dkwX0_reserveFor_0 : List UInt8 := [187, 1, 60, 89, 183, 1, 62, 77, 3, 62, 29, 42, 180, 0, 10, 180, 0, 76, 182, 0, 66, 162, 0, 38]
abbrev dktX0_reserveFor_0 : List UInt8 := dkwX0_reserveFor_0 ++ dktX0_reserveFor_1
theorem dksX0_reserveFor_0 : cX0_reserveFor.data.toList.drop 0 = dktX0_reserveFor_0 := by decide +kernel
theorem dksX0_reserveFor_1 : cX0_reserveFor.data.toList.drop 24 = dktX0_reserveFor_1 := dk_seg dksX0_reserveFor_0 24 rfl rfl
theorem dksX0_reserveFor_2 : cX0_reserveFor.data.toList.drop 47 = dktX0_reserveFor_2 := dk_seg dksX0_reserveFor_1 23 rfl rfl
theorem dksX0_reserveFor_3 : cX0_reserveFor.data.toList.drop 71 = dktX0_reserveFor_3 := dk_seg dksX0_reserveFor_2 24 rfl rfl
theorem dX0_reserveFor_0 : decode cX0_reserveFor 0 = .ok (.new 316, 3) := dk_187 1 60 (dk_at dksX0_reserveFor_0 0 rfl rfl)
theorem dX0_reserveFor_3 : decode cX0_reserveFor 3 = .ok (.dup, 1) := dk_89 (dk_at dksX0_reserveFor_0 3 rfl rfl)
theorem dX0_reserveFor_4 : decode cX0_reserveFor 4 = .ok (.invokespecial 318, 3) := dk_183 1 62 (dk_at dksX0_reserveFor_0 4 rfl rfl)
theorem dX0_reserveFor_7 : decode cX0_reserveFor 7 = .ok (.astore_n 2, 1) := dk_77 (dk_at dksX0_reserveFor_0 7 rfl rfl)
theorem dX0_reserveFor_8 : decode cX0_reserveFor 8 = .ok (.iconst 0, 1) := dk_3 (dk_at dksX0_reserveFor_0 8 rfl rfl)
theorem dX0_reserveFor_9 : decode cX0_reserveFor 9 = .ok (.istore_n 3, 1) := dk_62 (dk_at dksX0_reserveFor_0 9 rfl rfl)
theorem dX0_reserveFor_10 : decode cX0_reserveFor 10 = .ok (.iload_n 3, 1) := dk_29 (dk_at dksX0_reserveFor_0 10 rfl rfl)
theorem dX0_reserveFor_11 : decode cX0_reserveFor 11 = .ok (.aload_n 0, 1) := dk_42 (dk_at dksX0_reserveFor_0 11 rfl rfl)
theorem dX0_reserveFor_12 : decode cX0_reserveFor 12 = .ok (.getfield 10, 3) := dk_180 0 10 (dk_at dksX0_reserveFor_0 12 rfl rfl)
theorem dX0_reserveFor_15 : decode cX0_reserveFor 15 = .ok (.getfield 76, 3) := dk_180 0 76 (dk_at dksX0_reserveFor_0 15 rfl rfl)
theorem dX0_reserveFor_18 : decode cX0_reserveFor 18 = .ok (.invokevirtual 66, 3) := dk_182 0 66 (dk_at dksX0_reserveFor_0 18 rfl rfl)
theorem dX0_reserveFor_21 : decode cX0_reserveFor 21 = .ok (.if_icmp .ge 38, 3) := dk_162 0 38 (dk_at dksX0_reserveFor_0 21 rfl rfl)
theorem dX0_reserveFor_24 : decode cX0_reserveFor 24 = .ok (.aload_n 0, 1) := dk_42 (dk_at dksX0_reserveFor_1 0 rfl rfl)
theorem dX0_reserveFor_25 : decode cX0_reserveFor 25 = .ok (.iload_n 3, 1) := dk_29 (dk_at dksX0_reserveFor_1 1 rfl rfl)
theorem dX0_reserveFor_26 : decode cX0_reserveFor 26 = .ok (.iload_n 1, 1) := dk_27 (dk_at dksX0_reserveFor_1 2 rfl rfl)
theorem dX0_reserveFor_27 : decode cX0_reserveFor 27 = .ok (.invokevirtual 319, 3) := dk_182 1 63 (dk_at dksX0_reserveFor_1 3 rfl rfl)
theorem dX0_reserveFor_30 : decode cX0_reserveFor 30 = .ok (.ifCond .eq 23, 3) := dk_153 0 23 (dk_at dksX0_reserveFor_1 6 rfl rfl)
theorem dX0_reserveFor_33 : decode cX0_reserveFor 33 = .ok (.aload_n 2, 1) := dk_44 (dk_at dksX0_reserveFor_1 9 rfl rfl)
theorem dX0_reserveFor_34 : decode cX0_reserveFor 34 = .ok (.new 322, 3) := dk_187 1 66 (dk_at dksX0_reserveFor_1 10 rfl rfl)
theorem dX0_reserveFor_37 : decode cX0_reserveFor 37 = .ok (.dup, 1) := dk_89 (dk_at dksX0_reserveFor_1 13 rfl rfl)
theorem dX0_reserveFor_38 : decode cX0_reserveFor 38 = .ok (.iload_n 3, 1) := dk_29 (dk_at dksX0_reserveFor_1 14 rfl rfl)
theorem dX0_reserveFor_39 : decode cX0_reserveFor 39 = .ok (.bipush (-2), 2) := dk_16 254 (dk_at dksX0_reserveFor_1 15 rfl rfl)
theorem dX0_reserveFor_41 : decode cX0_reserveFor 41 = .ok (.iconst 0, 1) := dk_3 (dk_at dksX0_reserveFor_1 17 rfl rfl)
theorem dX0_reserveFor_42 : decode cX0_reserveFor 42 = .ok (.aload_n 0, 1) := dk_42 (dk_at dksX0_reserveFor_1 18 rfl rfl)
theorem dX0_reserveFor_43 : decode cX0_reserveFor 43 = .ok (.iload_n 3, 1) := dk_29 (dk_at dksX0_reserveFor_1 19 rfl rfl)
theorem dX0_reserveFor_44 : decode cX0_reserveFor 44 = .ok (.invokevirtual 289, 3) := dk_182 1 33 (dk_at dksX0_reserveFor_1 20 rfl rfl)
theorem dX0_reserveFor_47 : decode cX0_reserveFor 47 = .ok (.invokespecial 324, 3) := dk_183 1 68 (dk_at dksX0_reserveFor_2 0 rfl rfl)
theorem dX0_reserveFor_50 : decode cX0_reserveFor 50 = .ok (.invokevirtual 325, 3) := dk_182 1 69 (dk_at dksX0_reserveFor_2 3 rfl rfl)
theorem dX0_reserveFor_53 : decode cX0_reserveFor 53 = .ok (.iinc 3 1, 3) := dk_132 3 1 (dk_at dksX0_reserveFor_2 6 rfl rfl)
theorem dX0_reserveFor_56 : decode cX0_reserveFor 56 = .ok (.goto (-46), 3) := dk_167 255 210 (dk_at dksX0_reserveFor_2 9 rfl rfl)
theorem dX0_reserveFor_59 : decode cX0_reserveFor 59 = .ok (.aload_n 2, 1) := dk_44 (dk_at dksX0_reserveFor_2 12 rfl rfl)
theorem dX0_reserveFor_60 : decode cX0_reserveFor 60 = .ok (.getfield 329, 3) := dk_180 1 73 (dk_at dksX0_reserveFor_2 13 rfl rfl)
theorem dX0_reserveFor_63 : decode cX0_reserveFor 63 = .ok (.ifnonnull 8, 3) := dk_199 0 8 (dk_at dksX0_reserveFor_2 16 rfl rfl)
theorem dX0_reserveFor_66 : decode cX0_reserveFor 66 = .ok (.bipush (-2), 2) := dk_16 254 (dk_at dksX0_reserveFor_2 19 rfl rfl)
theorem dX0_reserveFor_68 : decode cX0_reserveFor 68 = .ok (.goto 13, 3) := dk_167 0 13 (dk_at dksX0_reserveFor_2 21 rfl rfl)
theorem dX0_reserveFor_71 : decode cX0_reserveFor 71 = .ok (.aload_n 2, 1) := dk_44 (dk_at dksX0_reserveFor_3 0 rfl rfl)
theorem dX0_reserveFor_72 : decode cX0_reserveFor 72 = .ok (.getfield 329, 3) := dk_180 1 73 (dk_at dksX0_reserveFor_3 1 rfl rfl)
theorem dX0_reserveFor_75 : decode cX0_reserveFor 75 = .ok (.checkcast 322, 3) := dk_192 1 66 (dk_at dksX0_reserveFor_3 4 rfl rfl)
theorem dX0_reserveFor_78 : decode cX0_reserveFor 78 = .ok (.getfield 332, 3) := dk_180 1 76 (dk_at dksX0_reserveFor_3 7 rfl rfl)
theorem dX0_reserveFor_81 : decode cX0_reserveFor 81 = .ok (.ireturn, 1) := dk_172 (dk_at dksX0_reserveFor_3 10 rfl rfl)
abbrev cX0_canCall : ByteArray := prog_1_method_70_code
def yX0_canCall : MethodName := ⟨RX0, "canCall", "(II)Z"⟩
def dkwX0_canCall_2 : List UInt8 := [42, 27, 28, 4, 182, 1, 17, 154, 0, 7, 4, 167, 0, 4, 3, 172]
abbrev dktX0_canCall_2 : List UInt8 := dkwX0_canCall_2 ++ []
def dkwX0_canCall_1 : List UInt8 := [180, 1, 54, 16, 120, 96, 161, 0, 32, 42, 28, 182, 0, 118, 180, 0, 181, 45, 180, 1, 57, 163, 0, 17]
abbrev dktX0_canCall_1 : List UInt8 := dkwX0_canCall_1 ++ dktX0_canCall_2
def dkwX0_canCall_0 : List UInt8 := [42, 27, 182, 0, 160, 78, 45, 182, 1, 51, 153, 0, 50, 42, 28, 182, 0, 118, 180, 0, 130, 45]
abbrev dktX0_canCall_0 : List UInt8 := dkwX0_canCall_0 ++ dktX0_canCall_1
theorem dksX0_canCall_0 : cX0_canCall.data.toList.drop 0 = dktX0_canCall_0 := by decide +kernel
theorem dksX0_canCall_1 : cX0_canCall.data.toList.drop 22 = dktX0_canCall_1 := dk_seg dksX0_canCall_0 22 rfl rfl
theorem dksX0_canCall_2 : cX0_canCall.data.toList.drop 46 = dktX0_canCall_2 := dk_seg dksX0_canCall_1 24 rfl rfl
theorem dX0_canCall_0 : decode cX0_canCall 0 = .ok (.aload_n 0, 1) := dk_42 (dk_at dksX0_canCall_0 0 rfl rfl)
theorem dX0_canCall_1 : decode cX0_canCall 1 = .ok (.iload_n 1, 1) := dk_27 (dk_at dksX0_canCall_0 1 rfl rfl)
theorem dX0_canCall_2 : decode cX0_canCall 2 = .ok (.invokevirtual 160, 3) := dk_182 0 160 (dk_at dksX0_canCall_0 2 rfl rfl)
theorem dX0_canCall_5 : decode cX0_canCall 5 = .ok (.astore_n 3, 1) := dk_78 (dk_at dksX0_canCall_0 5 rfl rfl)
theorem dX0_canCall_6 : decode cX0_canCall 6 = .ok (.aload_n 3, 1) := dk_45 (dk_at dksX0_canCall_0 6 rfl rfl)
theorem dX0_canCall_7 : decode cX0_canCall 7 = .ok (.invokevirtual 307, 3) := dk_182 1 51 (dk_at dksX0_canCall_0 7 rfl rfl)
theorem dX0_canCall_10 : decode cX0_canCall 10 = .ok (.ifCond .eq 50, 3) := dk_153 0 50 (dk_at dksX0_canCall_0 10 rfl rfl)
theorem dX0_canCall_13 : decode cX0_canCall 13 = .ok (.aload_n 0, 1) := dk_42 (dk_at dksX0_canCall_0 13 rfl rfl)
theorem dX0_canCall_14 : decode cX0_canCall 14 = .ok (.iload_n 2, 1) := dk_28 (dk_at dksX0_canCall_0 14 rfl rfl)
theorem dX0_canCall_15 : decode cX0_canCall 15 = .ok (.invokevirtual 118, 3) := dk_182 0 118 (dk_at dksX0_canCall_0 15 rfl rfl)
theorem dX0_canCall_18 : decode cX0_canCall 18 = .ok (.getfield 130, 3) := dk_180 0 130 (dk_at dksX0_canCall_0 18 rfl rfl)
theorem dX0_canCall_21 : decode cX0_canCall 21 = .ok (.aload_n 3, 1) := dk_45 (dk_at dksX0_canCall_0 21 rfl rfl)
theorem dX0_canCall_22 : decode cX0_canCall 22 = .ok (.getfield 310, 3) := dk_180 1 54 (dk_at dksX0_canCall_1 0 rfl rfl)
theorem dX0_canCall_25 : decode cX0_canCall 25 = .ok (.bipush 120, 2) := dk_16 120 (dk_at dksX0_canCall_1 3 rfl rfl)
theorem dX0_canCall_27 : decode cX0_canCall 27 = .ok (.iadd, 1) := dk_96 (dk_at dksX0_canCall_1 5 rfl rfl)
theorem dX0_canCall_28 : decode cX0_canCall 28 = .ok (.if_icmp .lt 32, 3) := dk_161 0 32 (dk_at dksX0_canCall_1 6 rfl rfl)
theorem dX0_canCall_31 : decode cX0_canCall 31 = .ok (.aload_n 0, 1) := dk_42 (dk_at dksX0_canCall_1 9 rfl rfl)
theorem dX0_canCall_32 : decode cX0_canCall 32 = .ok (.iload_n 2, 1) := dk_28 (dk_at dksX0_canCall_1 10 rfl rfl)
theorem dX0_canCall_33 : decode cX0_canCall 33 = .ok (.invokevirtual 118, 3) := dk_182 0 118 (dk_at dksX0_canCall_1 11 rfl rfl)
theorem dX0_canCall_36 : decode cX0_canCall 36 = .ok (.getfield 181, 3) := dk_180 0 181 (dk_at dksX0_canCall_1 14 rfl rfl)
theorem dX0_canCall_39 : decode cX0_canCall 39 = .ok (.aload_n 3, 1) := dk_45 (dk_at dksX0_canCall_1 17 rfl rfl)
theorem dX0_canCall_40 : decode cX0_canCall 40 = .ok (.getfield 313, 3) := dk_180 1 57 (dk_at dksX0_canCall_1 18 rfl rfl)
theorem dX0_canCall_43 : decode cX0_canCall 43 = .ok (.if_icmp .gt 17, 3) := dk_163 0 17 (dk_at dksX0_canCall_1 21 rfl rfl)
theorem dX0_canCall_46 : decode cX0_canCall 46 = .ok (.aload_n 0, 1) := dk_42 (dk_at dksX0_canCall_2 0 rfl rfl)
theorem dX0_canCall_47 : decode cX0_canCall 47 = .ok (.iload_n 1, 1) := dk_27 (dk_at dksX0_canCall_2 1 rfl rfl)
theorem dX0_canCall_48 : decode cX0_canCall 48 = .ok (.iload_n 2, 1) := dk_28 (dk_at dksX0_canCall_2 2 rfl rfl)
theorem dX0_canCall_49 : decode cX0_canCall 49 = .ok (.iconst 1, 1) := dk_4 (dk_at dksX0_canCall_2 3 rfl rfl)
theorem dX0_canCall_50 : decode cX0_canCall 50 = .ok (.invokevirtual 273, 3) := dk_182 1 17 (dk_at dksX0_canCall_2 4 rfl rfl)
theorem dX0_canCall_53 : decode cX0_canCall 53 = .ok (.ifCond .ne 7, 3) := dk_154 0 7 (dk_at dksX0_canCall_2 7 rfl rfl)
theorem dX0_canCall_56 : decode cX0_canCall 56 = .ok (.iconst 1, 1) := dk_4 (dk_at dksX0_canCall_2 10 rfl rfl)
theorem dX0_canCall_57 : decode cX0_canCall 57 = .ok (.goto 4, 3) := dk_167 0 4 (dk_at dksX0_canCall_2 11 rfl rfl)
theorem dX0_canCall_60 : decode cX0_canCall 60 = .ok (.iconst 0, 1) := dk_3 (dk_at dksX0_canCall_2 14 rfl rfl)
theorem dX0_canCall_61 : decode cX0_canCall 61 = .ok (.ireturn, 1) := dk_172 (dk_at dksX0_canCall_2 15 rfl rfl)
abbrev cX0_offer : ByteArray := prog_1_method_76_code
def yX0_offer : MethodName := ⟨RX0, "offer", "(II)I"⟩
def dkwX0_offer_2 : List UInt8 := [45, 180, 1, 76, 167, 0, 19, 28, 4, 160, 0, 10, 45, 180, 1, 98, 167, 0, 7, 45, 180, 1, 101, 172]
abbrev dktX0_offer_2 : List UInt8 := dkwX0_offer_2 ++ []
def dkwX0_offer_1 : List UInt8 := [153, 0, 11, 42, 27, 182, 1, 94, 167, 0, 4, 1, 78, 45, 199, 0, 6, 16, 254, 172, 28, 154, 0, 10]
abbrev dktX0_offer_1 : List UInt8 := dkwX0_offer_1 ++ dktX0_offer_2
def dkwX0_offer_0 : List UInt8 := [42, 27, 182, 0, 177, 153, 0, 12, 28, 3, 5, 184, 0, 72, 154, 0, 5, 2, 172, 42, 27, 182, 1, 42]
abbrev dktX0_offer_0 : List UInt8 := dkwX0_offer_0 ++ dktX0_offer_1
theorem dksX0_offer_0 : cX0_offer.data.toList.drop 0 = dktX0_offer_0 := by decide +kernel
theorem dksX0_offer_1 : cX0_offer.data.toList.drop 24 = dktX0_offer_1 := dk_seg dksX0_offer_0 24 rfl rfl
theorem dksX0_offer_2 : cX0_offer.data.toList.drop 48 = dktX0_offer_2 := dk_seg dksX0_offer_1 24 rfl rfl
theorem dX0_offer_0 : decode cX0_offer 0 = .ok (.aload_n 0, 1) := dk_42 (dk_at dksX0_offer_0 0 rfl rfl)
theorem dX0_offer_1 : decode cX0_offer 1 = .ok (.iload_n 1, 1) := dk_27 (dk_at dksX0_offer_0 1 rfl rfl)
theorem dX0_offer_2 : decode cX0_offer 2 = .ok (.invokevirtual 177, 3) := dk_182 0 177 (dk_at dksX0_offer_0 2 rfl rfl)
theorem dX0_offer_5 : decode cX0_offer 5 = .ok (.ifCond .eq 12, 3) := dk_153 0 12 (dk_at dksX0_offer_0 5 rfl rfl)
theorem dX0_offer_8 : decode cX0_offer 8 = .ok (.iload_n 2, 1) := dk_28 (dk_at dksX0_offer_0 8 rfl rfl)
theorem dX0_offer_9 : decode cX0_offer 9 = .ok (.iconst 0, 1) := dk_3 (dk_at dksX0_offer_0 9 rfl rfl)
theorem dX0_offer_10 : decode cX0_offer 10 = .ok (.iconst 2, 1) := dk_5 (dk_at dksX0_offer_0 10 rfl rfl)
theorem dX0_offer_11 : decode cX0_offer 11 = .ok (.invokestatic 72, 3) := dk_184 0 72 (dk_at dksX0_offer_0 11 rfl rfl)
theorem dX0_offer_14 : decode cX0_offer 14 = .ok (.ifCond .ne 5, 3) := dk_154 0 5 (dk_at dksX0_offer_0 14 rfl rfl)
theorem dX0_offer_17 : decode cX0_offer 17 = .ok (.iconst (-1), 1) := dk_2 (dk_at dksX0_offer_0 17 rfl rfl)
theorem dX0_offer_18 : decode cX0_offer 18 = .ok (.ireturn, 1) := dk_172 (dk_at dksX0_offer_0 18 rfl rfl)
theorem dX0_offer_19 : decode cX0_offer 19 = .ok (.aload_n 0, 1) := dk_42 (dk_at dksX0_offer_0 19 rfl rfl)
theorem dX0_offer_20 : decode cX0_offer 20 = .ok (.iload_n 1, 1) := dk_27 (dk_at dksX0_offer_0 20 rfl rfl)
theorem dX0_offer_21 : decode cX0_offer 21 = .ok (.invokevirtual 298, 3) := dk_182 1 42 (dk_at dksX0_offer_0 21 rfl rfl)
theorem dX0_offer_24 : decode cX0_offer 24 = .ok (.ifCond .eq 11, 3) := dk_153 0 11 (dk_at dksX0_offer_1 0 rfl rfl)
theorem dX0_offer_27 : decode cX0_offer 27 = .ok (.aload_n 0, 1) := dk_42 (dk_at dksX0_offer_1 3 rfl rfl)
theorem dX0_offer_28 : decode cX0_offer 28 = .ok (.iload_n 1, 1) := dk_27 (dk_at dksX0_offer_1 4 rfl rfl)
theorem dX0_offer_29 : decode cX0_offer 29 = .ok (.invokevirtual 350, 3) := dk_182 1 94 (dk_at dksX0_offer_1 5 rfl rfl)
theorem dX0_offer_32 : decode cX0_offer 32 = .ok (.goto 4, 3) := dk_167 0 4 (dk_at dksX0_offer_1 8 rfl rfl)
theorem dX0_offer_35 : decode cX0_offer 35 = .ok (.aconst_null, 1) := dk_1 (dk_at dksX0_offer_1 11 rfl rfl)
theorem dX0_offer_36 : decode cX0_offer 36 = .ok (.astore_n 3, 1) := dk_78 (dk_at dksX0_offer_1 12 rfl rfl)
theorem dX0_offer_37 : decode cX0_offer 37 = .ok (.aload_n 3, 1) := dk_45 (dk_at dksX0_offer_1 13 rfl rfl)
theorem dX0_offer_38 : decode cX0_offer 38 = .ok (.ifnonnull 6, 3) := dk_199 0 6 (dk_at dksX0_offer_1 14 rfl rfl)
theorem dX0_offer_41 : decode cX0_offer 41 = .ok (.bipush (-2), 2) := dk_16 254 (dk_at dksX0_offer_1 17 rfl rfl)
theorem dX0_offer_43 : decode cX0_offer 43 = .ok (.ireturn, 1) := dk_172 (dk_at dksX0_offer_1 19 rfl rfl)
theorem dX0_offer_44 : decode cX0_offer 44 = .ok (.iload_n 2, 1) := dk_28 (dk_at dksX0_offer_1 20 rfl rfl)
theorem dX0_offer_45 : decode cX0_offer 45 = .ok (.ifCond .ne 10, 3) := dk_154 0 10 (dk_at dksX0_offer_1 21 rfl rfl)
theorem dX0_offer_48 : decode cX0_offer 48 = .ok (.aload_n 3, 1) := dk_45 (dk_at dksX0_offer_2 0 rfl rfl)
theorem dX0_offer_49 : decode cX0_offer 49 = .ok (.getfield 332, 3) := dk_180 1 76 (dk_at dksX0_offer_2 1 rfl rfl)
theorem dX0_offer_52 : decode cX0_offer 52 = .ok (.goto 19, 3) := dk_167 0 19 (dk_at dksX0_offer_2 4 rfl rfl)
theorem dX0_offer_55 : decode cX0_offer 55 = .ok (.iload_n 2, 1) := dk_28 (dk_at dksX0_offer_2 7 rfl rfl)
theorem dX0_offer_56 : decode cX0_offer 56 = .ok (.iconst 1, 1) := dk_4 (dk_at dksX0_offer_2 8 rfl rfl)
theorem dX0_offer_57 : decode cX0_offer 57 = .ok (.if_icmp .ne 10, 3) := dk_160 0 10 (dk_at dksX0_offer_2 9 rfl rfl)
theorem dX0_offer_60 : decode cX0_offer 60 = .ok (.aload_n 3, 1) := dk_45 (dk_at dksX0_offer_2 12 rfl rfl)
theorem dX0_offer_61 : decode cX0_offer 61 = .ok (.getfield 354, 3) := dk_180 1 98 (dk_at dksX0_offer_2 13 rfl rfl)
theorem dX0_offer_64 : decode cX0_offer 64 = .ok (.goto 7, 3) := dk_167 0 7 (dk_at dksX0_offer_2 16 rfl rfl)
theorem dX0_offer_67 : decode cX0_offer 67 = .ok (.aload_n 3, 1) := dk_45 (dk_at dksX0_offer_2 19 rfl rfl)
theorem dX0_offer_68 : decode cX0_offer 68 = .ok (.getfield 357, 3) := dk_180 1 101 (dk_at dksX0_offer_2 20 rfl rfl)
theorem dX0_offer_71 : decode cX0_offer 71 = .ok (.ireturn, 1) := dk_172 (dk_at dksX0_offer_2 23 rfl rfl)
abbrev cX0_bestOffer : ByteArray := prog_1_method_75_code
def yX0_bestOffer : MethodName := ⟨RX0, "bestOffer", "(I)LCrewPairer$Offer;"⟩
def dkwX0_bestOffer_2 : List UInt8 := [167, 255, 218, 44, 180, 1, 73, 192, 1, 66, 176]
abbrev dktX0_bestOffer_2 : List UInt8 := dkwX0_bestOffer_2 ++ []
def dkwX0_bestOffer_1 : List UInt8 := [42, 29, 182, 0, 160, 182, 1, 51, 154, 0, 13, 44, 42, 29, 27, 182, 1, 86, 182, 1, 90, 132, 3, 1]
abbrev dktX0_bestOffer_1 : List UInt8 := dkwX0_bestOffer_1 ++ dktX0_bestOffer_2
def dkwX0_bestOffer_0 : List UInt8 := [187, 1, 60, 89, 183, 1, 62, 77, 3, 62, 29, 42, 180, 0, 10, 180, 0, 76, 182, 0, 66, 162, 0, 30]
abbrev dktX0_bestOffer_0 : List UInt8 := dkwX0_bestOffer_0 ++ dktX0_bestOffer_1
theorem dksX0_bestOffer_0 : cX0_bestOffer.data.toList.drop 0 = dktX0_bestOffer_0 := by decide +kernel
theorem dksX0_bestOffer_1 : cX0_bestOffer.data.toList.drop 24 = dktX0_bestOffer_1 := dk_seg dksX0_bestOffer_0 24 rfl rfl
theorem dksX0_bestOffer_2 : cX0_bestOffer.data.toList.drop 48 = dktX0_bestOffer_2 := dk_seg dksX0_bestOffer_1 24 rfl rfl
theorem dX0_bestOffer_0 : decode cX0_bestOffer 0 = .ok (.new 316, 3) := dk_187 1 60 (dk_at dksX0_bestOffer_0 0 rfl rfl)
theorem dX0_bestOffer_3 : decode cX0_bestOffer 3 = .ok (.dup, 1) := dk_89 (dk_at dksX0_bestOffer_0 3 rfl rfl)
theorem dX0_bestOffer_4 : decode cX0_bestOffer 4 = .ok (.invokespecial 318, 3) := dk_183 1 62 (dk_at dksX0_bestOffer_0 4 rfl rfl)
theorem dX0_bestOffer_7 : decode cX0_bestOffer 7 = .ok (.astore_n 2, 1) := dk_77 (dk_at dksX0_bestOffer_0 7 rfl rfl)
theorem dX0_bestOffer_8 : decode cX0_bestOffer 8 = .ok (.iconst 0, 1) := dk_3 (dk_at dksX0_bestOffer_0 8 rfl rfl)
theorem dX0_bestOffer_9 : decode cX0_bestOffer 9 = .ok (.istore_n 3, 1) := dk_62 (dk_at dksX0_bestOffer_0 9 rfl rfl)
theorem dX0_bestOffer_10 : decode cX0_bestOffer 10 = .ok (.iload_n 3, 1) := dk_29 (dk_at dksX0_bestOffer_0 10 rfl rfl)
theorem dX0_bestOffer_11 : decode cX0_bestOffer 11 = .ok (.aload_n 0, 1) := dk_42 (dk_at dksX0_bestOffer_0 11 rfl rfl)
theorem dX0_bestOffer_12 : decode cX0_bestOffer 12 = .ok (.getfield 10, 3) := dk_180 0 10 (dk_at dksX0_bestOffer_0 12 rfl rfl)
theorem dX0_bestOffer_15 : decode cX0_bestOffer 15 = .ok (.getfield 76, 3) := dk_180 0 76 (dk_at dksX0_bestOffer_0 15 rfl rfl)
theorem dX0_bestOffer_18 : decode cX0_bestOffer 18 = .ok (.invokevirtual 66, 3) := dk_182 0 66 (dk_at dksX0_bestOffer_0 18 rfl rfl)
theorem dX0_bestOffer_21 : decode cX0_bestOffer 21 = .ok (.if_icmp .ge 30, 3) := dk_162 0 30 (dk_at dksX0_bestOffer_0 21 rfl rfl)
theorem dX0_bestOffer_24 : decode cX0_bestOffer 24 = .ok (.aload_n 0, 1) := dk_42 (dk_at dksX0_bestOffer_1 0 rfl rfl)
theorem dX0_bestOffer_25 : decode cX0_bestOffer 25 = .ok (.iload_n 3, 1) := dk_29 (dk_at dksX0_bestOffer_1 1 rfl rfl)
theorem dX0_bestOffer_26 : decode cX0_bestOffer 26 = .ok (.invokevirtual 160, 3) := dk_182 0 160 (dk_at dksX0_bestOffer_1 2 rfl rfl)
theorem dX0_bestOffer_29 : decode cX0_bestOffer 29 = .ok (.invokevirtual 307, 3) := dk_182 1 51 (dk_at dksX0_bestOffer_1 5 rfl rfl)
theorem dX0_bestOffer_32 : decode cX0_bestOffer 32 = .ok (.ifCond .ne 13, 3) := dk_154 0 13 (dk_at dksX0_bestOffer_1 8 rfl rfl)
theorem dX0_bestOffer_35 : decode cX0_bestOffer 35 = .ok (.aload_n 2, 1) := dk_44 (dk_at dksX0_bestOffer_1 11 rfl rfl)
theorem dX0_bestOffer_36 : decode cX0_bestOffer 36 = .ok (.aload_n 0, 1) := dk_42 (dk_at dksX0_bestOffer_1 12 rfl rfl)
theorem dX0_bestOffer_37 : decode cX0_bestOffer 37 = .ok (.iload_n 3, 1) := dk_29 (dk_at dksX0_bestOffer_1 13 rfl rfl)
theorem dX0_bestOffer_38 : decode cX0_bestOffer 38 = .ok (.iload_n 1, 1) := dk_27 (dk_at dksX0_bestOffer_1 14 rfl rfl)
theorem dX0_bestOffer_39 : decode cX0_bestOffer 39 = .ok (.invokevirtual 342, 3) := dk_182 1 86 (dk_at dksX0_bestOffer_1 15 rfl rfl)
theorem dX0_bestOffer_42 : decode cX0_bestOffer 42 = .ok (.invokevirtual 346, 3) := dk_182 1 90 (dk_at dksX0_bestOffer_1 18 rfl rfl)
theorem dX0_bestOffer_45 : decode cX0_bestOffer 45 = .ok (.iinc 3 1, 3) := dk_132 3 1 (dk_at dksX0_bestOffer_1 21 rfl rfl)
theorem dX0_bestOffer_48 : decode cX0_bestOffer 48 = .ok (.goto (-38), 3) := dk_167 255 218 (dk_at dksX0_bestOffer_2 0 rfl rfl)
theorem dX0_bestOffer_51 : decode cX0_bestOffer 51 = .ok (.aload_n 2, 1) := dk_44 (dk_at dksX0_bestOffer_2 3 rfl rfl)
theorem dX0_bestOffer_52 : decode cX0_bestOffer 52 = .ok (.getfield 329, 3) := dk_180 1 73 (dk_at dksX0_bestOffer_2 4 rfl rfl)
theorem dX0_bestOffer_55 : decode cX0_bestOffer 55 = .ok (.checkcast 322, 3) := dk_192 1 66 (dk_at dksX0_bestOffer_2 7 rfl rfl)
theorem dX0_bestOffer_58 : decode cX0_bestOffer 58 = .ok (.areturn, 1) := dk_176 (dk_at dksX0_bestOffer_2 10 rfl rfl)
abbrev cX0_offersOf : ByteArray := prog_1_method_74_code
def yX0_offersOf : MethodName := ⟨RX0, "offersOf", "(II)Ljava/util/ArrayList;"⟩
def dkwX0_offersOf_4 : List UInt8 := [180, 0, 190, 16, 6, 46, 104, 21, 4, 183, 1, 68, 182, 0, 156, 87, 132, 5, 1, 167, 255, 190, 45, 176]
abbrev dktX0_offersOf_4 : List UInt8 := dkwX0_offersOf_4 ++ []
def dkwX0_offersOf_3 : List UInt8 := [153, 0, 40, 45, 187, 1, 66, 89, 27, 21, 5, 42, 21, 5, 182, 0, 118, 182, 0, 223, 42, 180, 0, 10]
abbrev dktX0_offersOf_3 : List UInt8 := dkwX0_offersOf_3 ++ dktX0_offersOf_4
def dkwX0_offersOf_2 : List UInt8 := [21, 5, 42, 180, 0, 10, 180, 0, 62, 182, 0, 66, 162, 0, 57, 42, 27, 21, 5, 28, 182, 1, 83]
abbrev dktX0_offersOf_2 : List UInt8 := dkwX0_offersOf_2 ++ dktX0_offersOf_3
def dkwX0_offersOf_1 : List UInt8 := [154, 0, 21, 45, 187, 1, 66, 89, 27, 16, 254, 3, 21, 4, 183, 1, 68, 182, 0, 156, 87, 3, 54, 5]
abbrev dktX0_offersOf_1 : List UInt8 := dkwX0_offersOf_1 ++ dktX0_offersOf_2
def dkwX0_offersOf_0 : List UInt8 := [187, 0, 67, 89, 183, 1, 82, 78, 42, 27, 182, 1, 33, 54, 4, 42, 27, 28, 4, 182, 1, 17]
abbrev dktX0_offersOf_0 : List UInt8 := dkwX0_offersOf_0 ++ dktX0_offersOf_1
theorem dksX0_offersOf_0 : cX0_offersOf.data.toList.drop 0 = dktX0_offersOf_0 := by decide +kernel
theorem dksX0_offersOf_1 : cX0_offersOf.data.toList.drop 22 = dktX0_offersOf_1 := dk_seg dksX0_offersOf_0 22 rfl rfl
theorem dksX0_offersOf_2 : cX0_offersOf.data.toList.drop 46 = dktX0_offersOf_2 := dk_seg dksX0_offersOf_1 24 rfl rfl
theorem dksX0_offersOf_3 : cX0_offersOf.data.toList.drop 69 = dktX0_offersOf_3 := dk_seg dksX0_offersOf_2 23 rfl rfl
theorem dksX0_offersOf_4 : cX0_offersOf.data.toList.drop 93 = dktX0_offersOf_4 := dk_seg dksX0_offersOf_3 24 rfl rfl
theorem dX0_offersOf_0 : decode cX0_offersOf 0 = .ok (.new 67, 3) := dk_187 0 67 (dk_at dksX0_offersOf_0 0 rfl rfl)
theorem dX0_offersOf_3 : decode cX0_offersOf 3 = .ok (.dup, 1) := dk_89 (dk_at dksX0_offersOf_0 3 rfl rfl)
theorem dX0_offersOf_4 : decode cX0_offersOf 4 = .ok (.invokespecial 338, 3) := dk_183 1 82 (dk_at dksX0_offersOf_0 4 rfl rfl)
theorem dX0_offersOf_7 : decode cX0_offersOf 7 = .ok (.astore_n 3, 1) := dk_78 (dk_at dksX0_offersOf_0 7 rfl rfl)
theorem dX0_offersOf_8 : decode cX0_offersOf 8 = .ok (.aload_n 0, 1) := dk_42 (dk_at dksX0_offersOf_0 8 rfl rfl)
theorem dX0_offersOf_9 : decode cX0_offersOf 9 = .ok (.iload_n 1, 1) := dk_27 (dk_at dksX0_offersOf_0 9 rfl rfl)
theorem dX0_offersOf_10 : decode cX0_offersOf 10 = .ok (.invokevirtual 289, 3) := dk_182 1 33 (dk_at dksX0_offersOf_0 10 rfl rfl)
theorem dX0_offersOf_13 : decode cX0_offersOf 13 = .ok (.istore 4, 2) := dk_54 4 (dk_at dksX0_offersOf_0 13 rfl rfl)
theorem dX0_offersOf_15 : decode cX0_offersOf 15 = .ok (.aload_n 0, 1) := dk_42 (dk_at dksX0_offersOf_0 15 rfl rfl)
theorem dX0_offersOf_16 : decode cX0_offersOf 16 = .ok (.iload_n 1, 1) := dk_27 (dk_at dksX0_offersOf_0 16 rfl rfl)
theorem dX0_offersOf_17 : decode cX0_offersOf 17 = .ok (.iload_n 2, 1) := dk_28 (dk_at dksX0_offersOf_0 17 rfl rfl)
theorem dX0_offersOf_18 : decode cX0_offersOf 18 = .ok (.iconst 1, 1) := dk_4 (dk_at dksX0_offersOf_0 18 rfl rfl)
theorem dX0_offersOf_19 : decode cX0_offersOf 19 = .ok (.invokevirtual 273, 3) := dk_182 1 17 (dk_at dksX0_offersOf_0 19 rfl rfl)
theorem dX0_offersOf_22 : decode cX0_offersOf 22 = .ok (.ifCond .ne 21, 3) := dk_154 0 21 (dk_at dksX0_offersOf_1 0 rfl rfl)
theorem dX0_offersOf_25 : decode cX0_offersOf 25 = .ok (.aload_n 3, 1) := dk_45 (dk_at dksX0_offersOf_1 3 rfl rfl)
theorem dX0_offersOf_26 : decode cX0_offersOf 26 = .ok (.new 322, 3) := dk_187 1 66 (dk_at dksX0_offersOf_1 4 rfl rfl)
theorem dX0_offersOf_29 : decode cX0_offersOf 29 = .ok (.dup, 1) := dk_89 (dk_at dksX0_offersOf_1 7 rfl rfl)
theorem dX0_offersOf_30 : decode cX0_offersOf 30 = .ok (.iload_n 1, 1) := dk_27 (dk_at dksX0_offersOf_1 8 rfl rfl)
theorem dX0_offersOf_31 : decode cX0_offersOf 31 = .ok (.bipush (-2), 2) := dk_16 254 (dk_at dksX0_offersOf_1 9 rfl rfl)
theorem dX0_offersOf_33 : decode cX0_offersOf 33 = .ok (.iconst 0, 1) := dk_3 (dk_at dksX0_offersOf_1 11 rfl rfl)
theorem dX0_offersOf_34 : decode cX0_offersOf 34 = .ok (.iload 4, 2) := dk_21 4 (dk_at dksX0_offersOf_1 12 rfl rfl)
theorem dX0_offersOf_36 : decode cX0_offersOf 36 = .ok (.invokespecial 324, 3) := dk_183 1 68 (dk_at dksX0_offersOf_1 14 rfl rfl)
theorem dX0_offersOf_39 : decode cX0_offersOf 39 = .ok (.invokevirtual 156, 3) := dk_182 0 156 (dk_at dksX0_offersOf_1 17 rfl rfl)
theorem dX0_offersOf_42 : decode cX0_offersOf 42 = .ok (.pop, 1) := dk_87 (dk_at dksX0_offersOf_1 20 rfl rfl)
theorem dX0_offersOf_43 : decode cX0_offersOf 43 = .ok (.iconst 0, 1) := dk_3 (dk_at dksX0_offersOf_1 21 rfl rfl)
theorem dX0_offersOf_44 : decode cX0_offersOf 44 = .ok (.istore 5, 2) := dk_54 5 (dk_at dksX0_offersOf_1 22 rfl rfl)
theorem dX0_offersOf_46 : decode cX0_offersOf 46 = .ok (.iload 5, 2) := dk_21 5 (dk_at dksX0_offersOf_2 0 rfl rfl)
theorem dX0_offersOf_48 : decode cX0_offersOf 48 = .ok (.aload_n 0, 1) := dk_42 (dk_at dksX0_offersOf_2 2 rfl rfl)
theorem dX0_offersOf_49 : decode cX0_offersOf 49 = .ok (.getfield 10, 3) := dk_180 0 10 (dk_at dksX0_offersOf_2 3 rfl rfl)
theorem dX0_offersOf_52 : decode cX0_offersOf 52 = .ok (.getfield 62, 3) := dk_180 0 62 (dk_at dksX0_offersOf_2 6 rfl rfl)
theorem dX0_offersOf_55 : decode cX0_offersOf 55 = .ok (.invokevirtual 66, 3) := dk_182 0 66 (dk_at dksX0_offersOf_2 9 rfl rfl)
theorem dX0_offersOf_58 : decode cX0_offersOf 58 = .ok (.if_icmp .ge 57, 3) := dk_162 0 57 (dk_at dksX0_offersOf_2 12 rfl rfl)
theorem dX0_offersOf_61 : decode cX0_offersOf 61 = .ok (.aload_n 0, 1) := dk_42 (dk_at dksX0_offersOf_2 15 rfl rfl)
theorem dX0_offersOf_62 : decode cX0_offersOf 62 = .ok (.iload_n 1, 1) := dk_27 (dk_at dksX0_offersOf_2 16 rfl rfl)
theorem dX0_offersOf_63 : decode cX0_offersOf 63 = .ok (.iload 5, 2) := dk_21 5 (dk_at dksX0_offersOf_2 17 rfl rfl)
theorem dX0_offersOf_65 : decode cX0_offersOf 65 = .ok (.iload_n 2, 1) := dk_28 (dk_at dksX0_offersOf_2 19 rfl rfl)
theorem dX0_offersOf_66 : decode cX0_offersOf 66 = .ok (.invokevirtual 339, 3) := dk_182 1 83 (dk_at dksX0_offersOf_2 20 rfl rfl)
theorem dX0_offersOf_69 : decode cX0_offersOf 69 = .ok (.ifCond .eq 40, 3) := dk_153 0 40 (dk_at dksX0_offersOf_3 0 rfl rfl)
theorem dX0_offersOf_72 : decode cX0_offersOf 72 = .ok (.aload_n 3, 1) := dk_45 (dk_at dksX0_offersOf_3 3 rfl rfl)
theorem dX0_offersOf_73 : decode cX0_offersOf 73 = .ok (.new 322, 3) := dk_187 1 66 (dk_at dksX0_offersOf_3 4 rfl rfl)
theorem dX0_offersOf_76 : decode cX0_offersOf 76 = .ok (.dup, 1) := dk_89 (dk_at dksX0_offersOf_3 7 rfl rfl)
theorem dX0_offersOf_77 : decode cX0_offersOf 77 = .ok (.iload_n 1, 1) := dk_27 (dk_at dksX0_offersOf_3 8 rfl rfl)
theorem dX0_offersOf_78 : decode cX0_offersOf 78 = .ok (.iload 5, 2) := dk_21 5 (dk_at dksX0_offersOf_3 9 rfl rfl)
theorem dX0_offersOf_80 : decode cX0_offersOf 80 = .ok (.aload_n 0, 1) := dk_42 (dk_at dksX0_offersOf_3 11 rfl rfl)
theorem dX0_offersOf_81 : decode cX0_offersOf 81 = .ok (.iload 5, 2) := dk_21 5 (dk_at dksX0_offersOf_3 12 rfl rfl)
theorem dX0_offersOf_83 : decode cX0_offersOf 83 = .ok (.invokevirtual 118, 3) := dk_182 0 118 (dk_at dksX0_offersOf_3 14 rfl rfl)
theorem dX0_offersOf_86 : decode cX0_offersOf 86 = .ok (.invokevirtual 223, 3) := dk_182 0 223 (dk_at dksX0_offersOf_3 17 rfl rfl)
theorem dX0_offersOf_89 : decode cX0_offersOf 89 = .ok (.aload_n 0, 1) := dk_42 (dk_at dksX0_offersOf_3 20 rfl rfl)
theorem dX0_offersOf_90 : decode cX0_offersOf 90 = .ok (.getfield 10, 3) := dk_180 0 10 (dk_at dksX0_offersOf_3 21 rfl rfl)
theorem dX0_offersOf_93 : decode cX0_offersOf 93 = .ok (.getfield 190, 3) := dk_180 0 190 (dk_at dksX0_offersOf_4 0 rfl rfl)
theorem dX0_offersOf_96 : decode cX0_offersOf 96 = .ok (.bipush 6, 2) := dk_16 6 (dk_at dksX0_offersOf_4 3 rfl rfl)
theorem dX0_offersOf_98 : decode cX0_offersOf 98 = .ok (.iaload, 1) := dk_46 (dk_at dksX0_offersOf_4 5 rfl rfl)
theorem dX0_offersOf_99 : decode cX0_offersOf 99 = .ok (.imul, 1) := dk_104 (dk_at dksX0_offersOf_4 6 rfl rfl)
theorem dX0_offersOf_100 : decode cX0_offersOf 100 = .ok (.iload 4, 2) := dk_21 4 (dk_at dksX0_offersOf_4 7 rfl rfl)
theorem dX0_offersOf_102 : decode cX0_offersOf 102 = .ok (.invokespecial 324, 3) := dk_183 1 68 (dk_at dksX0_offersOf_4 9 rfl rfl)
theorem dX0_offersOf_105 : decode cX0_offersOf 105 = .ok (.invokevirtual 156, 3) := dk_182 0 156 (dk_at dksX0_offersOf_4 12 rfl rfl)
theorem dX0_offersOf_108 : decode cX0_offersOf 108 = .ok (.pop, 1) := dk_87 (dk_at dksX0_offersOf_4 15 rfl rfl)
theorem dX0_offersOf_109 : decode cX0_offersOf 109 = .ok (.iinc 5 1, 3) := dk_132 5 1 (dk_at dksX0_offersOf_4 16 rfl rfl)
theorem dX0_offersOf_112 : decode cX0_offersOf 112 = .ok (.goto (-66), 3) := dk_167 255 190 (dk_at dksX0_offersOf_4 19 rfl rfl)
theorem dX0_offersOf_115 : decode cX0_offersOf 115 = .ok (.aload_n 3, 1) := dk_45 (dk_at dksX0_offersOf_4 22 rfl rfl)
theorem dX0_offersOf_116 : decode cX0_offersOf 116 = .ok (.areturn, 1) := dk_176 (dk_at dksX0_offersOf_4 23 rfl rfl)
abbrev cX0_canRideThenFly : ByteArray := prog_1_method_73_code
def yX0_canRideThenFly : MethodName := ⟨RX0, "canRideThenFly", "(III)Z"⟩
def dkwX0_canRideThenFly_2 : List UInt8 := [154, 0, 7, 4, 167, 0, 4, 3, 172]
abbrev dktX0_canRideThenFly_2 : List UInt8 := dkwX0_canRideThenFly_2 ++ []
def dkwX0_canRideThenFly_1 : List UInt8 := [3, 172, 42, 27, 182, 1, 0, 42, 28, 3, 182, 1, 3, 154, 0, 16, 42, 29, 4, 182, 1, 3]
abbrev dktX0_canRideThenFly_1 : List UInt8 := dkwX0_canRideThenFly_1 ++ dktX0_canRideThenFly_2
def dkwX0_canRideThenFly_0 : List UInt8 := [28, 29, 159, 0, 22, 42, 28, 182, 0, 118, 180, 0, 130, 42, 29, 182, 0, 118, 180, 0, 130, 161, 0, 5]
abbrev dktX0_canRideThenFly_0 : List UInt8 := dkwX0_canRideThenFly_0 ++ dktX0_canRideThenFly_1
theorem dksX0_canRideThenFly_0 : cX0_canRideThenFly.data.toList.drop 0 = dktX0_canRideThenFly_0 := by decide +kernel
theorem dksX0_canRideThenFly_1 : cX0_canRideThenFly.data.toList.drop 24 = dktX0_canRideThenFly_1 := dk_seg dksX0_canRideThenFly_0 24 rfl rfl
theorem dksX0_canRideThenFly_2 : cX0_canRideThenFly.data.toList.drop 46 = dktX0_canRideThenFly_2 := dk_seg dksX0_canRideThenFly_1 22 rfl rfl
theorem dX0_canRideThenFly_0 : decode cX0_canRideThenFly 0 = .ok (.iload_n 2, 1) := dk_28 (dk_at dksX0_canRideThenFly_0 0 rfl rfl)
theorem dX0_canRideThenFly_1 : decode cX0_canRideThenFly 1 = .ok (.iload_n 3, 1) := dk_29 (dk_at dksX0_canRideThenFly_0 1 rfl rfl)
theorem dX0_canRideThenFly_2 : decode cX0_canRideThenFly 2 = .ok (.if_icmp .eq 22, 3) := dk_159 0 22 (dk_at dksX0_canRideThenFly_0 2 rfl rfl)
theorem dX0_canRideThenFly_5 : decode cX0_canRideThenFly 5 = .ok (.aload_n 0, 1) := dk_42 (dk_at dksX0_canRideThenFly_0 5 rfl rfl)
theorem dX0_canRideThenFly_6 : decode cX0_canRideThenFly 6 = .ok (.iload_n 2, 1) := dk_28 (dk_at dksX0_canRideThenFly_0 6 rfl rfl)
theorem dX0_canRideThenFly_7 : decode cX0_canRideThenFly 7 = .ok (.invokevirtual 118, 3) := dk_182 0 118 (dk_at dksX0_canRideThenFly_0 7 rfl rfl)
theorem dX0_canRideThenFly_10 : decode cX0_canRideThenFly 10 = .ok (.getfield 130, 3) := dk_180 0 130 (dk_at dksX0_canRideThenFly_0 10 rfl rfl)
theorem dX0_canRideThenFly_13 : decode cX0_canRideThenFly 13 = .ok (.aload_n 0, 1) := dk_42 (dk_at dksX0_canRideThenFly_0 13 rfl rfl)
theorem dX0_canRideThenFly_14 : decode cX0_canRideThenFly 14 = .ok (.iload_n 3, 1) := dk_29 (dk_at dksX0_canRideThenFly_0 14 rfl rfl)
theorem dX0_canRideThenFly_15 : decode cX0_canRideThenFly 15 = .ok (.invokevirtual 118, 3) := dk_182 0 118 (dk_at dksX0_canRideThenFly_0 15 rfl rfl)
theorem dX0_canRideThenFly_18 : decode cX0_canRideThenFly 18 = .ok (.getfield 130, 3) := dk_180 0 130 (dk_at dksX0_canRideThenFly_0 18 rfl rfl)
theorem dX0_canRideThenFly_21 : decode cX0_canRideThenFly 21 = .ok (.if_icmp .lt 5, 3) := dk_161 0 5 (dk_at dksX0_canRideThenFly_0 21 rfl rfl)
theorem dX0_canRideThenFly_24 : decode cX0_canRideThenFly 24 = .ok (.iconst 0, 1) := dk_3 (dk_at dksX0_canRideThenFly_1 0 rfl rfl)
theorem dX0_canRideThenFly_25 : decode cX0_canRideThenFly 25 = .ok (.ireturn, 1) := dk_172 (dk_at dksX0_canRideThenFly_1 1 rfl rfl)
theorem dX0_canRideThenFly_26 : decode cX0_canRideThenFly 26 = .ok (.aload_n 0, 1) := dk_42 (dk_at dksX0_canRideThenFly_1 2 rfl rfl)
theorem dX0_canRideThenFly_27 : decode cX0_canRideThenFly 27 = .ok (.iload_n 1, 1) := dk_27 (dk_at dksX0_canRideThenFly_1 3 rfl rfl)
theorem dX0_canRideThenFly_28 : decode cX0_canRideThenFly 28 = .ok (.invokevirtual 256, 3) := dk_182 1 0 (dk_at dksX0_canRideThenFly_1 4 rfl rfl)
theorem dX0_canRideThenFly_31 : decode cX0_canRideThenFly 31 = .ok (.aload_n 0, 1) := dk_42 (dk_at dksX0_canRideThenFly_1 7 rfl rfl)
theorem dX0_canRideThenFly_32 : decode cX0_canRideThenFly 32 = .ok (.iload_n 2, 1) := dk_28 (dk_at dksX0_canRideThenFly_1 8 rfl rfl)
theorem dX0_canRideThenFly_33 : decode cX0_canRideThenFly 33 = .ok (.iconst 0, 1) := dk_3 (dk_at dksX0_canRideThenFly_1 9 rfl rfl)
theorem dX0_canRideThenFly_34 : decode cX0_canRideThenFly 34 = .ok (.invokevirtual 259, 3) := dk_182 1 3 (dk_at dksX0_canRideThenFly_1 10 rfl rfl)
theorem dX0_canRideThenFly_37 : decode cX0_canRideThenFly 37 = .ok (.ifCond .ne 16, 3) := dk_154 0 16 (dk_at dksX0_canRideThenFly_1 13 rfl rfl)
theorem dX0_canRideThenFly_40 : decode cX0_canRideThenFly 40 = .ok (.aload_n 0, 1) := dk_42 (dk_at dksX0_canRideThenFly_1 16 rfl rfl)
theorem dX0_canRideThenFly_41 : decode cX0_canRideThenFly 41 = .ok (.iload_n 3, 1) := dk_29 (dk_at dksX0_canRideThenFly_1 17 rfl rfl)
theorem dX0_canRideThenFly_42 : decode cX0_canRideThenFly 42 = .ok (.iconst 1, 1) := dk_4 (dk_at dksX0_canRideThenFly_1 18 rfl rfl)
theorem dX0_canRideThenFly_43 : decode cX0_canRideThenFly 43 = .ok (.invokevirtual 259, 3) := dk_182 1 3 (dk_at dksX0_canRideThenFly_1 19 rfl rfl)
theorem dX0_canRideThenFly_46 : decode cX0_canRideThenFly 46 = .ok (.ifCond .ne 7, 3) := dk_154 0 7 (dk_at dksX0_canRideThenFly_2 0 rfl rfl)
theorem dX0_canRideThenFly_49 : decode cX0_canRideThenFly 49 = .ok (.iconst 1, 1) := dk_4 (dk_at dksX0_canRideThenFly_2 3 rfl rfl)
theorem dX0_canRideThenFly_50 : decode cX0_canRideThenFly 50 = .ok (.goto 4, 3) := dk_167 0 4 (dk_at dksX0_canRideThenFly_2 4 rfl rfl)
theorem dX0_canRideThenFly_53 : decode cX0_canRideThenFly 53 = .ok (.iconst 0, 1) := dk_3 (dk_at dksX0_canRideThenFly_2 7 rfl rfl)
theorem dX0_canRideThenFly_54 : decode cX0_canRideThenFly 54 = .ok (.ireturn, 1) := dk_172 (dk_at dksX0_canRideThenFly_2 8 rfl rfl)
abbrev cX0_pair : ByteArray := prog_1_method_78_code
def yX0_pair : MethodName := ⟨RX0, "pair", "()I"⟩
def dkwX0_pair_3 : List UInt8 := [28, 172]
abbrev dktX0_pair_3 : List UInt8 := dkwX0_pair_3 ++ []
def dkwX0_pair_2 : List UInt8 := [198, 0, 18, 42, 25, 4, 42, 180, 0, 34, 29, 46, 182, 1, 104, 132, 2, 1, 132, 3, 1, 167, 255, 216]
abbrev dktX0_pair_2 : List UInt8 := dkwX0_pair_2 ++ dktX0_pair_3
def dkwX0_pair_1 : List UInt8 := [61, 3, 62, 29, 27, 162, 0, 41, 42, 42, 180, 0, 34, 29, 46, 182, 1, 94, 58, 4, 25, 4]
abbrev dktX0_pair_1 : List UInt8 := dkwX0_pair_1 ++ dktX0_pair_2
def dkwX0_pair_0 : List UInt8 := [42, 182, 0, 112, 42, 182, 1, 45, 60, 42, 180, 0, 31, 3, 42, 180, 0, 34, 3, 27, 184, 0, 91, 3]
abbrev dktX0_pair_0 : List UInt8 := dkwX0_pair_0 ++ dktX0_pair_1
theorem dksX0_pair_0 : cX0_pair.data.toList.drop 0 = dktX0_pair_0 := by decide +kernel
theorem dksX0_pair_1 : cX0_pair.data.toList.drop 24 = dktX0_pair_1 := dk_seg dksX0_pair_0 24 rfl rfl
theorem dksX0_pair_2 : cX0_pair.data.toList.drop 46 = dktX0_pair_2 := dk_seg dksX0_pair_1 22 rfl rfl
theorem dksX0_pair_3 : cX0_pair.data.toList.drop 70 = dktX0_pair_3 := dk_seg dksX0_pair_2 24 rfl rfl
theorem dX0_pair_0 : decode cX0_pair 0 = .ok (.aload_n 0, 1) := dk_42 (dk_at dksX0_pair_0 0 rfl rfl)
theorem dX0_pair_1 : decode cX0_pair 1 = .ok (.invokevirtual 112, 3) := dk_182 0 112 (dk_at dksX0_pair_0 1 rfl rfl)
theorem dX0_pair_4 : decode cX0_pair 4 = .ok (.aload_n 0, 1) := dk_42 (dk_at dksX0_pair_0 4 rfl rfl)
theorem dX0_pair_5 : decode cX0_pair 5 = .ok (.invokevirtual 301, 3) := dk_182 1 45 (dk_at dksX0_pair_0 5 rfl rfl)
theorem dX0_pair_8 : decode cX0_pair 8 = .ok (.istore_n 1, 1) := dk_60 (dk_at dksX0_pair_0 8 rfl rfl)
theorem dX0_pair_9 : decode cX0_pair 9 = .ok (.aload_n 0, 1) := dk_42 (dk_at dksX0_pair_0 9 rfl rfl)
theorem dX0_pair_10 : decode cX0_pair 10 = .ok (.getfield 31, 3) := dk_180 0 31 (dk_at dksX0_pair_0 10 rfl rfl)
theorem dX0_pair_13 : decode cX0_pair 13 = .ok (.iconst 0, 1) := dk_3 (dk_at dksX0_pair_0 13 rfl rfl)
theorem dX0_pair_14 : decode cX0_pair 14 = .ok (.aload_n 0, 1) := dk_42 (dk_at dksX0_pair_0 14 rfl rfl)
theorem dX0_pair_15 : decode cX0_pair 15 = .ok (.getfield 34, 3) := dk_180 0 34 (dk_at dksX0_pair_0 15 rfl rfl)
theorem dX0_pair_18 : decode cX0_pair 18 = .ok (.iconst 0, 1) := dk_3 (dk_at dksX0_pair_0 18 rfl rfl)
theorem dX0_pair_19 : decode cX0_pair 19 = .ok (.iload_n 1, 1) := dk_27 (dk_at dksX0_pair_0 19 rfl rfl)
theorem dX0_pair_20 : decode cX0_pair 20 = .ok (.invokestatic 91, 3) := dk_184 0 91 (dk_at dksX0_pair_0 20 rfl rfl)
theorem dX0_pair_23 : decode cX0_pair 23 = .ok (.iconst 0, 1) := dk_3 (dk_at dksX0_pair_0 23 rfl rfl)
theorem dX0_pair_24 : decode cX0_pair 24 = .ok (.istore_n 2, 1) := dk_61 (dk_at dksX0_pair_1 0 rfl rfl)
theorem dX0_pair_25 : decode cX0_pair 25 = .ok (.iconst 0, 1) := dk_3 (dk_at dksX0_pair_1 1 rfl rfl)
theorem dX0_pair_26 : decode cX0_pair 26 = .ok (.istore_n 3, 1) := dk_62 (dk_at dksX0_pair_1 2 rfl rfl)
theorem dX0_pair_27 : decode cX0_pair 27 = .ok (.iload_n 3, 1) := dk_29 (dk_at dksX0_pair_1 3 rfl rfl)
theorem dX0_pair_28 : decode cX0_pair 28 = .ok (.iload_n 1, 1) := dk_27 (dk_at dksX0_pair_1 4 rfl rfl)
theorem dX0_pair_29 : decode cX0_pair 29 = .ok (.if_icmp .ge 41, 3) := dk_162 0 41 (dk_at dksX0_pair_1 5 rfl rfl)
theorem dX0_pair_32 : decode cX0_pair 32 = .ok (.aload_n 0, 1) := dk_42 (dk_at dksX0_pair_1 8 rfl rfl)
theorem dX0_pair_33 : decode cX0_pair 33 = .ok (.aload_n 0, 1) := dk_42 (dk_at dksX0_pair_1 9 rfl rfl)
theorem dX0_pair_34 : decode cX0_pair 34 = .ok (.getfield 34, 3) := dk_180 0 34 (dk_at dksX0_pair_1 10 rfl rfl)
theorem dX0_pair_37 : decode cX0_pair 37 = .ok (.iload_n 3, 1) := dk_29 (dk_at dksX0_pair_1 13 rfl rfl)
theorem dX0_pair_38 : decode cX0_pair 38 = .ok (.iaload, 1) := dk_46 (dk_at dksX0_pair_1 14 rfl rfl)
theorem dX0_pair_39 : decode cX0_pair 39 = .ok (.invokevirtual 350, 3) := dk_182 1 94 (dk_at dksX0_pair_1 15 rfl rfl)
theorem dX0_pair_42 : decode cX0_pair 42 = .ok (.astore 4, 2) := dk_58 4 (dk_at dksX0_pair_1 18 rfl rfl)
theorem dX0_pair_44 : decode cX0_pair 44 = .ok (.aload 4, 2) := dk_25 4 (dk_at dksX0_pair_1 20 rfl rfl)
theorem dX0_pair_46 : decode cX0_pair 46 = .ok (.ifnull 18, 3) := dk_198 0 18 (dk_at dksX0_pair_2 0 rfl rfl)
theorem dX0_pair_49 : decode cX0_pair 49 = .ok (.aload_n 0, 1) := dk_42 (dk_at dksX0_pair_2 3 rfl rfl)
theorem dX0_pair_50 : decode cX0_pair 50 = .ok (.aload 4, 2) := dk_25 4 (dk_at dksX0_pair_2 4 rfl rfl)
theorem dX0_pair_52 : decode cX0_pair 52 = .ok (.aload_n 0, 1) := dk_42 (dk_at dksX0_pair_2 6 rfl rfl)
theorem dX0_pair_53 : decode cX0_pair 53 = .ok (.getfield 34, 3) := dk_180 0 34 (dk_at dksX0_pair_2 7 rfl rfl)
theorem dX0_pair_56 : decode cX0_pair 56 = .ok (.iload_n 3, 1) := dk_29 (dk_at dksX0_pair_2 10 rfl rfl)
theorem dX0_pair_57 : decode cX0_pair 57 = .ok (.iaload, 1) := dk_46 (dk_at dksX0_pair_2 11 rfl rfl)
theorem dX0_pair_58 : decode cX0_pair 58 = .ok (.invokevirtual 360, 3) := dk_182 1 104 (dk_at dksX0_pair_2 12 rfl rfl)
theorem dX0_pair_61 : decode cX0_pair 61 = .ok (.iinc 2 1, 3) := dk_132 2 1 (dk_at dksX0_pair_2 15 rfl rfl)
theorem dX0_pair_64 : decode cX0_pair 64 = .ok (.iinc 3 1, 3) := dk_132 3 1 (dk_at dksX0_pair_2 18 rfl rfl)
theorem dX0_pair_67 : decode cX0_pair 67 = .ok (.goto (-40), 3) := dk_167 255 216 (dk_at dksX0_pair_2 21 rfl rfl)
theorem dX0_pair_70 : decode cX0_pair 70 = .ok (.iload_n 2, 1) := dk_28 (dk_at dksX0_pair_3 0 rfl rfl)
theorem dX0_pair_71 : decode cX0_pair 71 = .ok (.ireturn, 1) := dk_172 (dk_at dksX0_pair_3 1 rfl rfl)
abbrev cX0_accept : ByteArray := prog_1_method_77_code
def yX0_accept : MethodName := ⟨RX0, "accept", "(LCrewPairer$Offer;I)V"⟩
def dkwX0_accept_1 : List UInt8 := [87, 42, 28, 4, 182, 1, 7, 87, 42, 43, 180, 1, 76, 182, 1, 21, 177]
abbrev dktX0_accept_1 : List UInt8 := dkwX0_accept_1 ++ []
def dkwX0_accept_0 : List UInt8 := [42, 43, 180, 1, 76, 182, 1, 0, 43, 180, 1, 98, 155, 0, 13, 42, 43, 180, 1, 98, 3, 182, 1, 7]
abbrev dktX0_accept_0 : List UInt8 := dkwX0_accept_0 ++ dktX0_accept_1
theorem dksX0_accept_0 : cX0_accept.data.toList.drop 0 = dktX0_accept_0 := by decide +kernel
theorem dksX0_accept_1 : cX0_accept.data.toList.drop 24 = dktX0_accept_1 := dk_seg dksX0_accept_0 24 rfl rfl
theorem dX0_accept_0 : decode cX0_accept 0 = .ok (.aload_n 0, 1) := dk_42 (dk_at dksX0_accept_0 0 rfl rfl)
theorem dX0_accept_1 : decode cX0_accept 1 = .ok (.aload_n 1, 1) := dk_43 (dk_at dksX0_accept_0 1 rfl rfl)
theorem dX0_accept_2 : decode cX0_accept 2 = .ok (.getfield 332, 3) := dk_180 1 76 (dk_at dksX0_accept_0 2 rfl rfl)
theorem dX0_accept_5 : decode cX0_accept 5 = .ok (.invokevirtual 256, 3) := dk_182 1 0 (dk_at dksX0_accept_0 5 rfl rfl)
theorem dX0_accept_8 : decode cX0_accept 8 = .ok (.aload_n 1, 1) := dk_43 (dk_at dksX0_accept_0 8 rfl rfl)
theorem dX0_accept_9 : decode cX0_accept 9 = .ok (.getfield 354, 3) := dk_180 1 98 (dk_at dksX0_accept_0 9 rfl rfl)
theorem dX0_accept_12 : decode cX0_accept 12 = .ok (.ifCond .lt 13, 3) := dk_155 0 13 (dk_at dksX0_accept_0 12 rfl rfl)
theorem dX0_accept_15 : decode cX0_accept 15 = .ok (.aload_n 0, 1) := dk_42 (dk_at dksX0_accept_0 15 rfl rfl)
theorem dX0_accept_16 : decode cX0_accept 16 = .ok (.aload_n 1, 1) := dk_43 (dk_at dksX0_accept_0 16 rfl rfl)
theorem dX0_accept_17 : decode cX0_accept 17 = .ok (.getfield 354, 3) := dk_180 1 98 (dk_at dksX0_accept_0 17 rfl rfl)
theorem dX0_accept_20 : decode cX0_accept 20 = .ok (.iconst 0, 1) := dk_3 (dk_at dksX0_accept_0 20 rfl rfl)
theorem dX0_accept_21 : decode cX0_accept 21 = .ok (.invokevirtual 263, 3) := dk_182 1 7 (dk_at dksX0_accept_0 21 rfl rfl)
theorem dX0_accept_24 : decode cX0_accept 24 = .ok (.pop, 1) := dk_87 (dk_at dksX0_accept_1 0 rfl rfl)
theorem dX0_accept_25 : decode cX0_accept 25 = .ok (.aload_n 0, 1) := dk_42 (dk_at dksX0_accept_1 1 rfl rfl)
theorem dX0_accept_26 : decode cX0_accept 26 = .ok (.iload_n 2, 1) := dk_28 (dk_at dksX0_accept_1 2 rfl rfl)
theorem dX0_accept_27 : decode cX0_accept 27 = .ok (.iconst 1, 1) := dk_4 (dk_at dksX0_accept_1 3 rfl rfl)
theorem dX0_accept_28 : decode cX0_accept 28 = .ok (.invokevirtual 263, 3) := dk_182 1 7 (dk_at dksX0_accept_1 4 rfl rfl)
theorem dX0_accept_31 : decode cX0_accept 31 = .ok (.pop, 1) := dk_87 (dk_at dksX0_accept_1 7 rfl rfl)
theorem dX0_accept_32 : decode cX0_accept 32 = .ok (.aload_n 0, 1) := dk_42 (dk_at dksX0_accept_1 8 rfl rfl)
theorem dX0_accept_33 : decode cX0_accept 33 = .ok (.aload_n 1, 1) := dk_43 (dk_at dksX0_accept_1 9 rfl rfl)
theorem dX0_accept_34 : decode cX0_accept 34 = .ok (.getfield 332, 3) := dk_180 1 76 (dk_at dksX0_accept_1 10 rfl rfl)
theorem dX0_accept_37 : decode cX0_accept 37 = .ok (.invokevirtual 277, 3) := dk_182 1 21 (dk_at dksX0_accept_1 13 rfl rfl)
theorem dX0_accept_40 : decode cX0_accept 40 = .ok (.return_, 1) := dk_177 (dk_at dksX0_accept_1 16 rfl rfl)
abbrev cX0_repair : ByteArray := prog_1_method_82_code
def yX0_repair : MethodName := ⟨RX0, "repair", "()I"⟩
def dkwX0_repair_6 : List UInt8 := [29, 104, 6, 96, 21, 4, 79, 132, 2, 1, 167, 255, 176, 42, 180, 1, 108, 172]
abbrev dktX0_repair_6 : List UInt8 := dkwX0_repair_6 ++ []
def dkwX0_repair_5 : List UInt8 := [89, 21, 4, 16, 254, 3, 3, 183, 1, 68, 42, 180, 0, 34, 28, 46, 182, 1, 104, 42, 180, 0, 37, 7]
abbrev dktX0_repair_5 : List UInt8 := dkwX0_repair_5 ++ dktX0_repair_6
def dkwX0_repair_4 : List UInt8 := [167, 0, 13, 42, 42, 180, 0, 34, 28, 46, 182, 1, 79, 54, 4, 21, 4, 155, 0, 38, 42, 187, 1, 66]
abbrev dktX0_repair_4 : List UInt8 := dkwX0_repair_4 ++ dktX0_repair_5
def dkwX0_repair_3 : List UInt8 := [28, 27, 162, 0, 81, 42, 42, 180, 0, 34, 28, 46, 182, 1, 117, 62, 29, 156, 0, 8, 16, 254]
abbrev dktX0_repair_3 : List UInt8 := dkwX0_repair_3 ++ dktX0_repair_4
def dkwX0_repair_2 : List UInt8 := [167, 255, 223, 42, 182, 1, 45, 60, 42, 180, 0, 31, 3, 42, 180, 0, 34, 3, 27, 184, 0, 91, 3, 61]
abbrev dktX0_repair_2 : List UInt8 := dkwX0_repair_2 ++ dktX0_repair_3
def dkwX0_repair_1 : List UInt8 := [162, 0, 25, 42, 27, 182, 1, 111, 153, 0, 11, 42, 27, 182, 1, 114, 167, 255, 243, 132, 1, 1]
abbrev dktX0_repair_1 : List UInt8 := dkwX0_repair_1 ++ dktX0_repair_2
def dkwX0_repair_0 : List UInt8 := [42, 182, 0, 112, 42, 3, 181, 1, 108, 3, 60, 27, 42, 180, 0, 10, 180, 0, 76, 182, 0, 66]
abbrev dktX0_repair_0 : List UInt8 := dkwX0_repair_0 ++ dktX0_repair_1
theorem dksX0_repair_0 : cX0_repair.data.toList.drop 0 = dktX0_repair_0 := by decide +kernel
theorem dksX0_repair_1 : cX0_repair.data.toList.drop 22 = dktX0_repair_1 := dk_seg dksX0_repair_0 22 rfl rfl
theorem dksX0_repair_2 : cX0_repair.data.toList.drop 44 = dktX0_repair_2 := dk_seg dksX0_repair_1 22 rfl rfl
theorem dksX0_repair_3 : cX0_repair.data.toList.drop 68 = dktX0_repair_3 := dk_seg dksX0_repair_2 24 rfl rfl
theorem dksX0_repair_4 : cX0_repair.data.toList.drop 90 = dktX0_repair_4 := dk_seg dksX0_repair_3 22 rfl rfl
theorem dksX0_repair_5 : cX0_repair.data.toList.drop 114 = dktX0_repair_5 := dk_seg dksX0_repair_4 24 rfl rfl
theorem dksX0_repair_6 : cX0_repair.data.toList.drop 138 = dktX0_repair_6 := dk_seg dksX0_repair_5 24 rfl rfl
theorem dX0_repair_0 : decode cX0_repair 0 = .ok (.aload_n 0, 1) := dk_42 (dk_at dksX0_repair_0 0 rfl rfl)
theorem dX0_repair_1 : decode cX0_repair 1 = .ok (.invokevirtual 112, 3) := dk_182 0 112 (dk_at dksX0_repair_0 1 rfl rfl)
theorem dX0_repair_4 : decode cX0_repair 4 = .ok (.aload_n 0, 1) := dk_42 (dk_at dksX0_repair_0 4 rfl rfl)
theorem dX0_repair_5 : decode cX0_repair 5 = .ok (.iconst 0, 1) := dk_3 (dk_at dksX0_repair_0 5 rfl rfl)
theorem dX0_repair_6 : decode cX0_repair 6 = .ok (.putfield 364, 3) := dk_181 1 108 (dk_at dksX0_repair_0 6 rfl rfl)
theorem dX0_repair_9 : decode cX0_repair 9 = .ok (.iconst 0, 1) := dk_3 (dk_at dksX0_repair_0 9 rfl rfl)
theorem dX0_repair_10 : decode cX0_repair 10 = .ok (.istore_n 1, 1) := dk_60 (dk_at dksX0_repair_0 10 rfl rfl)
theorem dX0_repair_11 : decode cX0_repair 11 = .ok (.iload_n 1, 1) := dk_27 (dk_at dksX0_repair_0 11 rfl rfl)
theorem dX0_repair_12 : decode cX0_repair 12 = .ok (.aload_n 0, 1) := dk_42 (dk_at dksX0_repair_0 12 rfl rfl)
theorem dX0_repair_13 : decode cX0_repair 13 = .ok (.getfield 10, 3) := dk_180 0 10 (dk_at dksX0_repair_0 13 rfl rfl)
theorem dX0_repair_16 : decode cX0_repair 16 = .ok (.getfield 76, 3) := dk_180 0 76 (dk_at dksX0_repair_0 16 rfl rfl)
theorem dX0_repair_19 : decode cX0_repair 19 = .ok (.invokevirtual 66, 3) := dk_182 0 66 (dk_at dksX0_repair_0 19 rfl rfl)
theorem dX0_repair_22 : decode cX0_repair 22 = .ok (.if_icmp .ge 25, 3) := dk_162 0 25 (dk_at dksX0_repair_1 0 rfl rfl)
theorem dX0_repair_25 : decode cX0_repair 25 = .ok (.aload_n 0, 1) := dk_42 (dk_at dksX0_repair_1 3 rfl rfl)
theorem dX0_repair_26 : decode cX0_repair 26 = .ok (.iload_n 1, 1) := dk_27 (dk_at dksX0_repair_1 4 rfl rfl)
theorem dX0_repair_27 : decode cX0_repair 27 = .ok (.invokevirtual 367, 3) := dk_182 1 111 (dk_at dksX0_repair_1 5 rfl rfl)
theorem dX0_repair_30 : decode cX0_repair 30 = .ok (.ifCond .eq 11, 3) := dk_153 0 11 (dk_at dksX0_repair_1 8 rfl rfl)
theorem dX0_repair_33 : decode cX0_repair 33 = .ok (.aload_n 0, 1) := dk_42 (dk_at dksX0_repair_1 11 rfl rfl)
theorem dX0_repair_34 : decode cX0_repair 34 = .ok (.iload_n 1, 1) := dk_27 (dk_at dksX0_repair_1 12 rfl rfl)
theorem dX0_repair_35 : decode cX0_repair 35 = .ok (.invokevirtual 370, 3) := dk_182 1 114 (dk_at dksX0_repair_1 13 rfl rfl)
theorem dX0_repair_38 : decode cX0_repair 38 = .ok (.goto (-13), 3) := dk_167 255 243 (dk_at dksX0_repair_1 16 rfl rfl)
theorem dX0_repair_41 : decode cX0_repair 41 = .ok (.iinc 1 1, 3) := dk_132 1 1 (dk_at dksX0_repair_1 19 rfl rfl)
theorem dX0_repair_44 : decode cX0_repair 44 = .ok (.goto (-33), 3) := dk_167 255 223 (dk_at dksX0_repair_2 0 rfl rfl)
theorem dX0_repair_47 : decode cX0_repair 47 = .ok (.aload_n 0, 1) := dk_42 (dk_at dksX0_repair_2 3 rfl rfl)
theorem dX0_repair_48 : decode cX0_repair 48 = .ok (.invokevirtual 301, 3) := dk_182 1 45 (dk_at dksX0_repair_2 4 rfl rfl)
theorem dX0_repair_51 : decode cX0_repair 51 = .ok (.istore_n 1, 1) := dk_60 (dk_at dksX0_repair_2 7 rfl rfl)
theorem dX0_repair_52 : decode cX0_repair 52 = .ok (.aload_n 0, 1) := dk_42 (dk_at dksX0_repair_2 8 rfl rfl)
theorem dX0_repair_53 : decode cX0_repair 53 = .ok (.getfield 31, 3) := dk_180 0 31 (dk_at dksX0_repair_2 9 rfl rfl)
theorem dX0_repair_56 : decode cX0_repair 56 = .ok (.iconst 0, 1) := dk_3 (dk_at dksX0_repair_2 12 rfl rfl)
theorem dX0_repair_57 : decode cX0_repair 57 = .ok (.aload_n 0, 1) := dk_42 (dk_at dksX0_repair_2 13 rfl rfl)
theorem dX0_repair_58 : decode cX0_repair 58 = .ok (.getfield 34, 3) := dk_180 0 34 (dk_at dksX0_repair_2 14 rfl rfl)
theorem dX0_repair_61 : decode cX0_repair 61 = .ok (.iconst 0, 1) := dk_3 (dk_at dksX0_repair_2 17 rfl rfl)
theorem dX0_repair_62 : decode cX0_repair 62 = .ok (.iload_n 1, 1) := dk_27 (dk_at dksX0_repair_2 18 rfl rfl)
theorem dX0_repair_63 : decode cX0_repair 63 = .ok (.invokestatic 91, 3) := dk_184 0 91 (dk_at dksX0_repair_2 19 rfl rfl)
theorem dX0_repair_66 : decode cX0_repair 66 = .ok (.iconst 0, 1) := dk_3 (dk_at dksX0_repair_2 22 rfl rfl)
theorem dX0_repair_67 : decode cX0_repair 67 = .ok (.istore_n 2, 1) := dk_61 (dk_at dksX0_repair_2 23 rfl rfl)
theorem dX0_repair_68 : decode cX0_repair 68 = .ok (.iload_n 2, 1) := dk_28 (dk_at dksX0_repair_3 0 rfl rfl)
theorem dX0_repair_69 : decode cX0_repair 69 = .ok (.iload_n 1, 1) := dk_27 (dk_at dksX0_repair_3 1 rfl rfl)
theorem dX0_repair_70 : decode cX0_repair 70 = .ok (.if_icmp .ge 81, 3) := dk_162 0 81 (dk_at dksX0_repair_3 2 rfl rfl)
theorem dX0_repair_73 : decode cX0_repair 73 = .ok (.aload_n 0, 1) := dk_42 (dk_at dksX0_repair_3 5 rfl rfl)
theorem dX0_repair_74 : decode cX0_repair 74 = .ok (.aload_n 0, 1) := dk_42 (dk_at dksX0_repair_3 6 rfl rfl)
theorem dX0_repair_75 : decode cX0_repair 75 = .ok (.getfield 34, 3) := dk_180 0 34 (dk_at dksX0_repair_3 7 rfl rfl)
theorem dX0_repair_78 : decode cX0_repair 78 = .ok (.iload_n 2, 1) := dk_28 (dk_at dksX0_repair_3 10 rfl rfl)
theorem dX0_repair_79 : decode cX0_repair 79 = .ok (.iaload, 1) := dk_46 (dk_at dksX0_repair_3 11 rfl rfl)
theorem dX0_repair_80 : decode cX0_repair 80 = .ok (.invokevirtual 373, 3) := dk_182 1 117 (dk_at dksX0_repair_3 12 rfl rfl)
theorem dX0_repair_83 : decode cX0_repair 83 = .ok (.istore_n 3, 1) := dk_62 (dk_at dksX0_repair_3 15 rfl rfl)
theorem dX0_repair_84 : decode cX0_repair 84 = .ok (.iload_n 3, 1) := dk_29 (dk_at dksX0_repair_3 16 rfl rfl)
theorem dX0_repair_85 : decode cX0_repair 85 = .ok (.ifCond .ge 8, 3) := dk_156 0 8 (dk_at dksX0_repair_3 17 rfl rfl)
theorem dX0_repair_88 : decode cX0_repair 88 = .ok (.bipush (-2), 2) := dk_16 254 (dk_at dksX0_repair_3 20 rfl rfl)
theorem dX0_repair_90 : decode cX0_repair 90 = .ok (.goto 13, 3) := dk_167 0 13 (dk_at dksX0_repair_4 0 rfl rfl)
theorem dX0_repair_93 : decode cX0_repair 93 = .ok (.aload_n 0, 1) := dk_42 (dk_at dksX0_repair_4 3 rfl rfl)
theorem dX0_repair_94 : decode cX0_repair 94 = .ok (.aload_n 0, 1) := dk_42 (dk_at dksX0_repair_4 4 rfl rfl)
theorem dX0_repair_95 : decode cX0_repair 95 = .ok (.getfield 34, 3) := dk_180 0 34 (dk_at dksX0_repair_4 5 rfl rfl)
theorem dX0_repair_98 : decode cX0_repair 98 = .ok (.iload_n 2, 1) := dk_28 (dk_at dksX0_repair_4 8 rfl rfl)
theorem dX0_repair_99 : decode cX0_repair 99 = .ok (.iaload, 1) := dk_46 (dk_at dksX0_repair_4 9 rfl rfl)
theorem dX0_repair_100 : decode cX0_repair 100 = .ok (.invokevirtual 335, 3) := dk_182 1 79 (dk_at dksX0_repair_4 10 rfl rfl)
theorem dX0_repair_103 : decode cX0_repair 103 = .ok (.istore 4, 2) := dk_54 4 (dk_at dksX0_repair_4 13 rfl rfl)
theorem dX0_repair_105 : decode cX0_repair 105 = .ok (.iload 4, 2) := dk_21 4 (dk_at dksX0_repair_4 15 rfl rfl)
theorem dX0_repair_107 : decode cX0_repair 107 = .ok (.ifCond .lt 38, 3) := dk_155 0 38 (dk_at dksX0_repair_4 17 rfl rfl)
theorem dX0_repair_110 : decode cX0_repair 110 = .ok (.aload_n 0, 1) := dk_42 (dk_at dksX0_repair_4 20 rfl rfl)
theorem dX0_repair_111 : decode cX0_repair 111 = .ok (.new 322, 3) := dk_187 1 66 (dk_at dksX0_repair_4 21 rfl rfl)
theorem dX0_repair_114 : decode cX0_repair 114 = .ok (.dup, 1) := dk_89 (dk_at dksX0_repair_5 0 rfl rfl)
theorem dX0_repair_115 : decode cX0_repair 115 = .ok (.iload 4, 2) := dk_21 4 (dk_at dksX0_repair_5 1 rfl rfl)
theorem dX0_repair_117 : decode cX0_repair 117 = .ok (.bipush (-2), 2) := dk_16 254 (dk_at dksX0_repair_5 3 rfl rfl)
theorem dX0_repair_119 : decode cX0_repair 119 = .ok (.iconst 0, 1) := dk_3 (dk_at dksX0_repair_5 5 rfl rfl)
theorem dX0_repair_120 : decode cX0_repair 120 = .ok (.iconst 0, 1) := dk_3 (dk_at dksX0_repair_5 6 rfl rfl)
theorem dX0_repair_121 : decode cX0_repair 121 = .ok (.invokespecial 324, 3) := dk_183 1 68 (dk_at dksX0_repair_5 7 rfl rfl)
theorem dX0_repair_124 : decode cX0_repair 124 = .ok (.aload_n 0, 1) := dk_42 (dk_at dksX0_repair_5 10 rfl rfl)
theorem dX0_repair_125 : decode cX0_repair 125 = .ok (.getfield 34, 3) := dk_180 0 34 (dk_at dksX0_repair_5 11 rfl rfl)
theorem dX0_repair_128 : decode cX0_repair 128 = .ok (.iload_n 2, 1) := dk_28 (dk_at dksX0_repair_5 14 rfl rfl)
theorem dX0_repair_129 : decode cX0_repair 129 = .ok (.iaload, 1) := dk_46 (dk_at dksX0_repair_5 15 rfl rfl)
theorem dX0_repair_130 : decode cX0_repair 130 = .ok (.invokevirtual 360, 3) := dk_182 1 104 (dk_at dksX0_repair_5 16 rfl rfl)
theorem dX0_repair_133 : decode cX0_repair 133 = .ok (.aload_n 0, 1) := dk_42 (dk_at dksX0_repair_5 19 rfl rfl)
theorem dX0_repair_134 : decode cX0_repair 134 = .ok (.getfield 37, 3) := dk_180 0 37 (dk_at dksX0_repair_5 20 rfl rfl)
theorem dX0_repair_137 : decode cX0_repair 137 = .ok (.iconst 4, 1) := dk_7 (dk_at dksX0_repair_5 23 rfl rfl)
theorem dX0_repair_138 : decode cX0_repair 138 = .ok (.iload_n 3, 1) := dk_29 (dk_at dksX0_repair_6 0 rfl rfl)
theorem dX0_repair_139 : decode cX0_repair 139 = .ok (.imul, 1) := dk_104 (dk_at dksX0_repair_6 1 rfl rfl)
theorem dX0_repair_140 : decode cX0_repair 140 = .ok (.iconst 3, 1) := dk_6 (dk_at dksX0_repair_6 2 rfl rfl)
theorem dX0_repair_141 : decode cX0_repair 141 = .ok (.iadd, 1) := dk_96 (dk_at dksX0_repair_6 3 rfl rfl)
theorem dX0_repair_142 : decode cX0_repair 142 = .ok (.iload 4, 2) := dk_21 4 (dk_at dksX0_repair_6 4 rfl rfl)
theorem dX0_repair_144 : decode cX0_repair 144 = .ok (.iastore, 1) := dk_79 (dk_at dksX0_repair_6 6 rfl rfl)
theorem dX0_repair_145 : decode cX0_repair 145 = .ok (.iinc 2 1, 3) := dk_132 2 1 (dk_at dksX0_repair_6 7 rfl rfl)
theorem dX0_repair_148 : decode cX0_repair 148 = .ok (.goto (-80), 3) := dk_167 255 176 (dk_at dksX0_repair_6 10 rfl rfl)
theorem dX0_repair_151 : decode cX0_repair 151 = .ok (.aload_n 0, 1) := dk_42 (dk_at dksX0_repair_6 13 rfl rfl)
theorem dX0_repair_152 : decode cX0_repair 152 = .ok (.getfield 364, 3) := dk_180 1 108 (dk_at dksX0_repair_6 14 rfl rfl)
theorem dX0_repair_155 : decode cX0_repair 155 = .ok (.ireturn, 1) := dk_172 (dk_at dksX0_repair_6 17 rfl rfl)
abbrev cX0_hasViolation : ByteArray := prog_1_method_80_code
def yX0_hasViolation : MethodName := ⟨RX0, "hasViolation", "(I)Z"⟩
def dkwX0_hasViolation_0 : List UInt8 := [42, 27, 182, 1, 0, 42, 182, 1, 10, 154, 0, 7, 4, 167, 0, 4, 3, 172]
abbrev dktX0_hasViolation_0 : List UInt8 := dkwX0_hasViolation_0 ++ []
theorem dksX0_hasViolation_0 : cX0_hasViolation.data.toList.drop 0 = dktX0_hasViolation_0 := by decide +kernel
theorem dX0_hasViolation_0 : decode cX0_hasViolation 0 = .ok (.aload_n 0, 1) := dk_42 (dk_at dksX0_hasViolation_0 0 rfl rfl)
theorem dX0_hasViolation_1 : decode cX0_hasViolation 1 = .ok (.iload_n 1, 1) := dk_27 (dk_at dksX0_hasViolation_0 1 rfl rfl)
theorem dX0_hasViolation_2 : decode cX0_hasViolation 2 = .ok (.invokevirtual 256, 3) := dk_182 1 0 (dk_at dksX0_hasViolation_0 2 rfl rfl)
theorem dX0_hasViolation_5 : decode cX0_hasViolation 5 = .ok (.aload_n 0, 1) := dk_42 (dk_at dksX0_hasViolation_0 5 rfl rfl)
theorem dX0_hasViolation_6 : decode cX0_hasViolation 6 = .ok (.invokevirtual 266, 3) := dk_182 1 10 (dk_at dksX0_hasViolation_0 6 rfl rfl)
theorem dX0_hasViolation_9 : decode cX0_hasViolation 9 = .ok (.ifCond .ne 7, 3) := dk_154 0 7 (dk_at dksX0_hasViolation_0 9 rfl rfl)
theorem dX0_hasViolation_12 : decode cX0_hasViolation 12 = .ok (.iconst 1, 1) := dk_4 (dk_at dksX0_hasViolation_0 12 rfl rfl)
theorem dX0_hasViolation_13 : decode cX0_hasViolation 13 = .ok (.goto 4, 3) := dk_167 0 4 (dk_at dksX0_hasViolation_0 13 rfl rfl)
theorem dX0_hasViolation_16 : decode cX0_hasViolation 16 = .ok (.iconst 0, 1) := dk_3 (dk_at dksX0_hasViolation_0 16 rfl rfl)
theorem dX0_hasViolation_17 : decode cX0_hasViolation 17 = .ok (.ireturn, 1) := dk_172 (dk_at dksX0_hasViolation_0 17 rfl rfl)
abbrev cX0_removeFirstViolation : ByteArray := prog_1_method_79_code
def yX0_removeFirstViolation : MethodName := ⟨RX0, "removeFirstViolation", "(I)V"⟩
def dkwX0_removeFirstViolation_3 : List UInt8 := [42, 89, 180, 1, 108, 4, 96, 181, 1, 108, 44, 42, 180, 0, 250, 182, 1, 27, 177]
abbrev dktX0_removeFirstViolation_3 : List UInt8 := dkwX0_removeFirstViolation_3 ++ []
def dkwX0_removeFirstViolation_2 : List UInt8 := [42, 180, 0, 250, 51, 153, 0, 7, 4, 167, 0, 4, 3, 79, 42, 180, 0, 37, 29, 6, 96, 16, 254, 79]
abbrev dktX0_removeFirstViolation_2 : List UInt8 := dkwX0_removeFirstViolation_2 ++ dktX0_removeFirstViolation_3
def dkwX0_removeFirstViolation_1 : List UInt8 := [29, 4, 96, 44, 180, 0, 205, 42, 180, 0, 250, 46, 79, 42, 180, 0, 37, 29, 5, 96, 44, 180, 0, 168]
abbrev dktX0_removeFirstViolation_1 : List UInt8 := dkwX0_removeFirstViolation_1 ++ dktX0_removeFirstViolation_2
def dkwX0_removeFirstViolation_0 : List UInt8 := [42, 27, 182, 0, 160, 77, 7, 42, 180, 1, 108, 104, 62, 42, 180, 0, 37, 29, 27, 79, 42, 180, 0, 37]
abbrev dktX0_removeFirstViolation_0 : List UInt8 := dkwX0_removeFirstViolation_0 ++ dktX0_removeFirstViolation_1
theorem dksX0_removeFirstViolation_0 : cX0_removeFirstViolation.data.toList.drop 0 = dktX0_removeFirstViolation_0 := by decide +kernel
theorem dksX0_removeFirstViolation_1 : cX0_removeFirstViolation.data.toList.drop 24 = dktX0_removeFirstViolation_1 := dk_seg dksX0_removeFirstViolation_0 24 rfl rfl
theorem dksX0_removeFirstViolation_2 : cX0_removeFirstViolation.data.toList.drop 48 = dktX0_removeFirstViolation_2 := dk_seg dksX0_removeFirstViolation_1 24 rfl rfl
theorem dksX0_removeFirstViolation_3 : cX0_removeFirstViolation.data.toList.drop 72 = dktX0_removeFirstViolation_3 := dk_seg dksX0_removeFirstViolation_2 24 rfl rfl
theorem dX0_removeFirstViolation_0 : decode cX0_removeFirstViolation 0 = .ok (.aload_n 0, 1) := dk_42 (dk_at dksX0_removeFirstViolation_0 0 rfl rfl)
theorem dX0_removeFirstViolation_1 : decode cX0_removeFirstViolation 1 = .ok (.iload_n 1, 1) := dk_27 (dk_at dksX0_removeFirstViolation_0 1 rfl rfl)
theorem dX0_removeFirstViolation_2 : decode cX0_removeFirstViolation 2 = .ok (.invokevirtual 160, 3) := dk_182 0 160 (dk_at dksX0_removeFirstViolation_0 2 rfl rfl)
theorem dX0_removeFirstViolation_5 : decode cX0_removeFirstViolation 5 = .ok (.astore_n 2, 1) := dk_77 (dk_at dksX0_removeFirstViolation_0 5 rfl rfl)
theorem dX0_removeFirstViolation_6 : decode cX0_removeFirstViolation 6 = .ok (.iconst 4, 1) := dk_7 (dk_at dksX0_removeFirstViolation_0 6 rfl rfl)
theorem dX0_removeFirstViolation_7 : decode cX0_removeFirstViolation 7 = .ok (.aload_n 0, 1) := dk_42 (dk_at dksX0_removeFirstViolation_0 7 rfl rfl)
theorem dX0_removeFirstViolation_8 : decode cX0_removeFirstViolation 8 = .ok (.getfield 364, 3) := dk_180 1 108 (dk_at dksX0_removeFirstViolation_0 8 rfl rfl)
theorem dX0_removeFirstViolation_11 : decode cX0_removeFirstViolation 11 = .ok (.imul, 1) := dk_104 (dk_at dksX0_removeFirstViolation_0 11 rfl rfl)
theorem dX0_removeFirstViolation_12 : decode cX0_removeFirstViolation 12 = .ok (.istore_n 3, 1) := dk_62 (dk_at dksX0_removeFirstViolation_0 12 rfl rfl)
theorem dX0_removeFirstViolation_13 : decode cX0_removeFirstViolation 13 = .ok (.aload_n 0, 1) := dk_42 (dk_at dksX0_removeFirstViolation_0 13 rfl rfl)
theorem dX0_removeFirstViolation_14 : decode cX0_removeFirstViolation 14 = .ok (.getfield 37, 3) := dk_180 0 37 (dk_at dksX0_removeFirstViolation_0 14 rfl rfl)
theorem dX0_removeFirstViolation_17 : decode cX0_removeFirstViolation 17 = .ok (.iload_n 3, 1) := dk_29 (dk_at dksX0_removeFirstViolation_0 17 rfl rfl)
theorem dX0_removeFirstViolation_18 : decode cX0_removeFirstViolation 18 = .ok (.iload_n 1, 1) := dk_27 (dk_at dksX0_removeFirstViolation_0 18 rfl rfl)
theorem dX0_removeFirstViolation_19 : decode cX0_removeFirstViolation 19 = .ok (.iastore, 1) := dk_79 (dk_at dksX0_removeFirstViolation_0 19 rfl rfl)
theorem dX0_removeFirstViolation_20 : decode cX0_removeFirstViolation 20 = .ok (.aload_n 0, 1) := dk_42 (dk_at dksX0_removeFirstViolation_0 20 rfl rfl)
theorem dX0_removeFirstViolation_21 : decode cX0_removeFirstViolation 21 = .ok (.getfield 37, 3) := dk_180 0 37 (dk_at dksX0_removeFirstViolation_0 21 rfl rfl)
theorem dX0_removeFirstViolation_24 : decode cX0_removeFirstViolation 24 = .ok (.iload_n 3, 1) := dk_29 (dk_at dksX0_removeFirstViolation_1 0 rfl rfl)
theorem dX0_removeFirstViolation_25 : decode cX0_removeFirstViolation 25 = .ok (.iconst 1, 1) := dk_4 (dk_at dksX0_removeFirstViolation_1 1 rfl rfl)
theorem dX0_removeFirstViolation_26 : decode cX0_removeFirstViolation 26 = .ok (.iadd, 1) := dk_96 (dk_at dksX0_removeFirstViolation_1 2 rfl rfl)
theorem dX0_removeFirstViolation_27 : decode cX0_removeFirstViolation 27 = .ok (.aload_n 2, 1) := dk_44 (dk_at dksX0_removeFirstViolation_1 3 rfl rfl)
theorem dX0_removeFirstViolation_28 : decode cX0_removeFirstViolation 28 = .ok (.getfield 205, 3) := dk_180 0 205 (dk_at dksX0_removeFirstViolation_1 4 rfl rfl)
theorem dX0_removeFirstViolation_31 : decode cX0_removeFirstViolation 31 = .ok (.aload_n 0, 1) := dk_42 (dk_at dksX0_removeFirstViolation_1 7 rfl rfl)
theorem dX0_removeFirstViolation_32 : decode cX0_removeFirstViolation 32 = .ok (.getfield 250, 3) := dk_180 0 250 (dk_at dksX0_removeFirstViolation_1 8 rfl rfl)
theorem dX0_removeFirstViolation_35 : decode cX0_removeFirstViolation 35 = .ok (.iaload, 1) := dk_46 (dk_at dksX0_removeFirstViolation_1 11 rfl rfl)
theorem dX0_removeFirstViolation_36 : decode cX0_removeFirstViolation 36 = .ok (.iastore, 1) := dk_79 (dk_at dksX0_removeFirstViolation_1 12 rfl rfl)
theorem dX0_removeFirstViolation_37 : decode cX0_removeFirstViolation 37 = .ok (.aload_n 0, 1) := dk_42 (dk_at dksX0_removeFirstViolation_1 13 rfl rfl)
theorem dX0_removeFirstViolation_38 : decode cX0_removeFirstViolation 38 = .ok (.getfield 37, 3) := dk_180 0 37 (dk_at dksX0_removeFirstViolation_1 14 rfl rfl)
theorem dX0_removeFirstViolation_41 : decode cX0_removeFirstViolation 41 = .ok (.iload_n 3, 1) := dk_29 (dk_at dksX0_removeFirstViolation_1 17 rfl rfl)
theorem dX0_removeFirstViolation_42 : decode cX0_removeFirstViolation 42 = .ok (.iconst 2, 1) := dk_5 (dk_at dksX0_removeFirstViolation_1 18 rfl rfl)
theorem dX0_removeFirstViolation_43 : decode cX0_removeFirstViolation 43 = .ok (.iadd, 1) := dk_96 (dk_at dksX0_removeFirstViolation_1 19 rfl rfl)
theorem dX0_removeFirstViolation_44 : decode cX0_removeFirstViolation 44 = .ok (.aload_n 2, 1) := dk_44 (dk_at dksX0_removeFirstViolation_1 20 rfl rfl)
theorem dX0_removeFirstViolation_45 : decode cX0_removeFirstViolation 45 = .ok (.getfield 168, 3) := dk_180 0 168 (dk_at dksX0_removeFirstViolation_1 21 rfl rfl)
theorem dX0_removeFirstViolation_48 : decode cX0_removeFirstViolation 48 = .ok (.aload_n 0, 1) := dk_42 (dk_at dksX0_removeFirstViolation_2 0 rfl rfl)
theorem dX0_removeFirstViolation_49 : decode cX0_removeFirstViolation 49 = .ok (.getfield 250, 3) := dk_180 0 250 (dk_at dksX0_removeFirstViolation_2 1 rfl rfl)
theorem dX0_removeFirstViolation_52 : decode cX0_removeFirstViolation 52 = .ok (.baload, 1) := dk_51 (dk_at dksX0_removeFirstViolation_2 4 rfl rfl)
theorem dX0_removeFirstViolation_53 : decode cX0_removeFirstViolation 53 = .ok (.ifCond .eq 7, 3) := dk_153 0 7 (dk_at dksX0_removeFirstViolation_2 5 rfl rfl)
theorem dX0_removeFirstViolation_56 : decode cX0_removeFirstViolation 56 = .ok (.iconst 1, 1) := dk_4 (dk_at dksX0_removeFirstViolation_2 8 rfl rfl)
theorem dX0_removeFirstViolation_57 : decode cX0_removeFirstViolation 57 = .ok (.goto 4, 3) := dk_167 0 4 (dk_at dksX0_removeFirstViolation_2 9 rfl rfl)
theorem dX0_removeFirstViolation_60 : decode cX0_removeFirstViolation 60 = .ok (.iconst 0, 1) := dk_3 (dk_at dksX0_removeFirstViolation_2 12 rfl rfl)
theorem dX0_removeFirstViolation_61 : decode cX0_removeFirstViolation 61 = .ok (.iastore, 1) := dk_79 (dk_at dksX0_removeFirstViolation_2 13 rfl rfl)
theorem dX0_removeFirstViolation_62 : decode cX0_removeFirstViolation 62 = .ok (.aload_n 0, 1) := dk_42 (dk_at dksX0_removeFirstViolation_2 14 rfl rfl)
theorem dX0_removeFirstViolation_63 : decode cX0_removeFirstViolation 63 = .ok (.getfield 37, 3) := dk_180 0 37 (dk_at dksX0_removeFirstViolation_2 15 rfl rfl)
theorem dX0_removeFirstViolation_66 : decode cX0_removeFirstViolation 66 = .ok (.iload_n 3, 1) := dk_29 (dk_at dksX0_removeFirstViolation_2 18 rfl rfl)
theorem dX0_removeFirstViolation_67 : decode cX0_removeFirstViolation 67 = .ok (.iconst 3, 1) := dk_6 (dk_at dksX0_removeFirstViolation_2 19 rfl rfl)
theorem dX0_removeFirstViolation_68 : decode cX0_removeFirstViolation 68 = .ok (.iadd, 1) := dk_96 (dk_at dksX0_removeFirstViolation_2 20 rfl rfl)
theorem dX0_removeFirstViolation_69 : decode cX0_removeFirstViolation 69 = .ok (.bipush (-2), 2) := dk_16 254 (dk_at dksX0_removeFirstViolation_2 21 rfl rfl)
theorem dX0_removeFirstViolation_71 : decode cX0_removeFirstViolation 71 = .ok (.iastore, 1) := dk_79 (dk_at dksX0_removeFirstViolation_2 23 rfl rfl)
theorem dX0_removeFirstViolation_72 : decode cX0_removeFirstViolation 72 = .ok (.aload_n 0, 1) := dk_42 (dk_at dksX0_removeFirstViolation_3 0 rfl rfl)
theorem dX0_removeFirstViolation_73 : decode cX0_removeFirstViolation 73 = .ok (.dup, 1) := dk_89 (dk_at dksX0_removeFirstViolation_3 1 rfl rfl)
theorem dX0_removeFirstViolation_74 : decode cX0_removeFirstViolation 74 = .ok (.getfield 364, 3) := dk_180 1 108 (dk_at dksX0_removeFirstViolation_3 2 rfl rfl)
theorem dX0_removeFirstViolation_77 : decode cX0_removeFirstViolation 77 = .ok (.iconst 1, 1) := dk_4 (dk_at dksX0_removeFirstViolation_3 5 rfl rfl)
theorem dX0_removeFirstViolation_78 : decode cX0_removeFirstViolation 78 = .ok (.iadd, 1) := dk_96 (dk_at dksX0_removeFirstViolation_3 6 rfl rfl)
theorem dX0_removeFirstViolation_79 : decode cX0_removeFirstViolation 79 = .ok (.putfield 364, 3) := dk_181 1 108 (dk_at dksX0_removeFirstViolation_3 7 rfl rfl)
theorem dX0_removeFirstViolation_82 : decode cX0_removeFirstViolation 82 = .ok (.aload_n 2, 1) := dk_44 (dk_at dksX0_removeFirstViolation_3 10 rfl rfl)
theorem dX0_removeFirstViolation_83 : decode cX0_removeFirstViolation 83 = .ok (.aload_n 0, 1) := dk_42 (dk_at dksX0_removeFirstViolation_3 11 rfl rfl)
theorem dX0_removeFirstViolation_84 : decode cX0_removeFirstViolation 84 = .ok (.getfield 250, 3) := dk_180 0 250 (dk_at dksX0_removeFirstViolation_3 12 rfl rfl)
theorem dX0_removeFirstViolation_87 : decode cX0_removeFirstViolation 87 = .ok (.invokevirtual 283, 3) := dk_182 1 27 (dk_at dksX0_removeFirstViolation_3 15 rfl rfl)
theorem dX0_removeFirstViolation_90 : decode cX0_removeFirstViolation 90 = .ok (.return_, 1) := dk_177 (dk_at dksX0_removeFirstViolation_3 18 rfl rfl)
abbrev cX0_removal : ByteArray := prog_1_method_81_code
def yX0_removal : MethodName := ⟨RX0, "removal", "(I)I"⟩
def dkwX0_removal_1 : List UInt8 := [42, 180, 0, 37, 7, 28, 104, 5, 96, 46, 4, 160, 0, 5, 28, 172, 132, 2, 1, 167, 255, 215, 2, 172]
abbrev dktX0_removal_1 : List UInt8 := dkwX0_removal_1 ++ []
def dkwX0_removal_0 : List UInt8 := [3, 61, 28, 42, 180, 1, 108, 162, 0, 39, 42, 180, 0, 37, 7, 28, 104, 4, 96, 46, 27, 160, 0, 19]
abbrev dktX0_removal_0 : List UInt8 := dkwX0_removal_0 ++ dktX0_removal_1
theorem dksX0_removal_0 : cX0_removal.data.toList.drop 0 = dktX0_removal_0 := by decide +kernel
theorem dksX0_removal_1 : cX0_removal.data.toList.drop 24 = dktX0_removal_1 := dk_seg dksX0_removal_0 24 rfl rfl
theorem dX0_removal_0 : decode cX0_removal 0 = .ok (.iconst 0, 1) := dk_3 (dk_at dksX0_removal_0 0 rfl rfl)
theorem dX0_removal_1 : decode cX0_removal 1 = .ok (.istore_n 2, 1) := dk_61 (dk_at dksX0_removal_0 1 rfl rfl)
theorem dX0_removal_2 : decode cX0_removal 2 = .ok (.iload_n 2, 1) := dk_28 (dk_at dksX0_removal_0 2 rfl rfl)
theorem dX0_removal_3 : decode cX0_removal 3 = .ok (.aload_n 0, 1) := dk_42 (dk_at dksX0_removal_0 3 rfl rfl)
theorem dX0_removal_4 : decode cX0_removal 4 = .ok (.getfield 364, 3) := dk_180 1 108 (dk_at dksX0_removal_0 4 rfl rfl)
theorem dX0_removal_7 : decode cX0_removal 7 = .ok (.if_icmp .ge 39, 3) := dk_162 0 39 (dk_at dksX0_removal_0 7 rfl rfl)
theorem dX0_removal_10 : decode cX0_removal 10 = .ok (.aload_n 0, 1) := dk_42 (dk_at dksX0_removal_0 10 rfl rfl)
theorem dX0_removal_11 : decode cX0_removal 11 = .ok (.getfield 37, 3) := dk_180 0 37 (dk_at dksX0_removal_0 11 rfl rfl)
theorem dX0_removal_14 : decode cX0_removal 14 = .ok (.iconst 4, 1) := dk_7 (dk_at dksX0_removal_0 14 rfl rfl)
theorem dX0_removal_15 : decode cX0_removal 15 = .ok (.iload_n 2, 1) := dk_28 (dk_at dksX0_removal_0 15 rfl rfl)
theorem dX0_removal_16 : decode cX0_removal 16 = .ok (.imul, 1) := dk_104 (dk_at dksX0_removal_0 16 rfl rfl)
theorem dX0_removal_17 : decode cX0_removal 17 = .ok (.iconst 1, 1) := dk_4 (dk_at dksX0_removal_0 17 rfl rfl)
theorem dX0_removal_18 : decode cX0_removal 18 = .ok (.iadd, 1) := dk_96 (dk_at dksX0_removal_0 18 rfl rfl)
theorem dX0_removal_19 : decode cX0_removal 19 = .ok (.iaload, 1) := dk_46 (dk_at dksX0_removal_0 19 rfl rfl)
theorem dX0_removal_20 : decode cX0_removal 20 = .ok (.iload_n 1, 1) := dk_27 (dk_at dksX0_removal_0 20 rfl rfl)
theorem dX0_removal_21 : decode cX0_removal 21 = .ok (.if_icmp .ne 19, 3) := dk_160 0 19 (dk_at dksX0_removal_0 21 rfl rfl)
theorem dX0_removal_24 : decode cX0_removal 24 = .ok (.aload_n 0, 1) := dk_42 (dk_at dksX0_removal_1 0 rfl rfl)
theorem dX0_removal_25 : decode cX0_removal 25 = .ok (.getfield 37, 3) := dk_180 0 37 (dk_at dksX0_removal_1 1 rfl rfl)
theorem dX0_removal_28 : decode cX0_removal 28 = .ok (.iconst 4, 1) := dk_7 (dk_at dksX0_removal_1 4 rfl rfl)
theorem dX0_removal_29 : decode cX0_removal 29 = .ok (.iload_n 2, 1) := dk_28 (dk_at dksX0_removal_1 5 rfl rfl)
theorem dX0_removal_30 : decode cX0_removal 30 = .ok (.imul, 1) := dk_104 (dk_at dksX0_removal_1 6 rfl rfl)
theorem dX0_removal_31 : decode cX0_removal 31 = .ok (.iconst 2, 1) := dk_5 (dk_at dksX0_removal_1 7 rfl rfl)
theorem dX0_removal_32 : decode cX0_removal 32 = .ok (.iadd, 1) := dk_96 (dk_at dksX0_removal_1 8 rfl rfl)
theorem dX0_removal_33 : decode cX0_removal 33 = .ok (.iaload, 1) := dk_46 (dk_at dksX0_removal_1 9 rfl rfl)
theorem dX0_removal_34 : decode cX0_removal 34 = .ok (.iconst 1, 1) := dk_4 (dk_at dksX0_removal_1 10 rfl rfl)
theorem dX0_removal_35 : decode cX0_removal 35 = .ok (.if_icmp .ne 5, 3) := dk_160 0 5 (dk_at dksX0_removal_1 11 rfl rfl)
theorem dX0_removal_38 : decode cX0_removal 38 = .ok (.iload_n 2, 1) := dk_28 (dk_at dksX0_removal_1 14 rfl rfl)
theorem dX0_removal_39 : decode cX0_removal 39 = .ok (.ireturn, 1) := dk_172 (dk_at dksX0_removal_1 15 rfl rfl)
theorem dX0_removal_40 : decode cX0_removal 40 = .ok (.iinc 2 1, 3) := dk_132 2 1 (dk_at dksX0_removal_1 16 rfl rfl)
theorem dX0_removal_43 : decode cX0_removal 43 = .ok (.goto (-41), 3) := dk_167 255 215 (dk_at dksX0_removal_1 19 rfl rfl)
theorem dX0_removal_46 : decode cX0_removal 46 = .ok (.iconst (-1), 1) := dk_2 (dk_at dksX0_removal_1 22 rfl rfl)
theorem dX0_removal_47 : decode cX0_removal 47 = .ok (.ireturn, 1) := dk_172 (dk_at dksX0_removal_1 23 rfl rfl)
abbrev cX0_repaired : ByteArray := prog_1_method_83_code
def yX0_repaired : MethodName := ⟨RX0, "repaired", "(II)I"⟩
def dkwX0_repaired_1 : List UInt8 := [153, 0, 16, 42, 180, 0, 37, 7, 27, 104, 28, 96, 46, 167, 0, 5, 16, 254, 172]
abbrev dktX0_repaired_1 : List UInt8 := dkwX0_repaired_1 ++ []
def dkwX0_repaired_0 : List UInt8 := [28, 3, 6, 184, 0, 72, 154, 0, 5, 2, 172, 27, 3, 42, 180, 1, 108, 4, 100, 184, 0, 72]
abbrev dktX0_repaired_0 : List UInt8 := dkwX0_repaired_0 ++ dktX0_repaired_1
theorem dksX0_repaired_0 : cX0_repaired.data.toList.drop 0 = dktX0_repaired_0 := by decide +kernel
theorem dksX0_repaired_1 : cX0_repaired.data.toList.drop 22 = dktX0_repaired_1 := dk_seg dksX0_repaired_0 22 rfl rfl
theorem dX0_repaired_0 : decode cX0_repaired 0 = .ok (.iload_n 2, 1) := dk_28 (dk_at dksX0_repaired_0 0 rfl rfl)
theorem dX0_repaired_1 : decode cX0_repaired 1 = .ok (.iconst 0, 1) := dk_3 (dk_at dksX0_repaired_0 1 rfl rfl)
theorem dX0_repaired_2 : decode cX0_repaired 2 = .ok (.iconst 3, 1) := dk_6 (dk_at dksX0_repaired_0 2 rfl rfl)
theorem dX0_repaired_3 : decode cX0_repaired 3 = .ok (.invokestatic 72, 3) := dk_184 0 72 (dk_at dksX0_repaired_0 3 rfl rfl)
theorem dX0_repaired_6 : decode cX0_repaired 6 = .ok (.ifCond .ne 5, 3) := dk_154 0 5 (dk_at dksX0_repaired_0 6 rfl rfl)
theorem dX0_repaired_9 : decode cX0_repaired 9 = .ok (.iconst (-1), 1) := dk_2 (dk_at dksX0_repaired_0 9 rfl rfl)
theorem dX0_repaired_10 : decode cX0_repaired 10 = .ok (.ireturn, 1) := dk_172 (dk_at dksX0_repaired_0 10 rfl rfl)
theorem dX0_repaired_11 : decode cX0_repaired 11 = .ok (.iload_n 1, 1) := dk_27 (dk_at dksX0_repaired_0 11 rfl rfl)
theorem dX0_repaired_12 : decode cX0_repaired 12 = .ok (.iconst 0, 1) := dk_3 (dk_at dksX0_repaired_0 12 rfl rfl)
theorem dX0_repaired_13 : decode cX0_repaired 13 = .ok (.aload_n 0, 1) := dk_42 (dk_at dksX0_repaired_0 13 rfl rfl)
theorem dX0_repaired_14 : decode cX0_repaired 14 = .ok (.getfield 364, 3) := dk_180 1 108 (dk_at dksX0_repaired_0 14 rfl rfl)
theorem dX0_repaired_17 : decode cX0_repaired 17 = .ok (.iconst 1, 1) := dk_4 (dk_at dksX0_repaired_0 17 rfl rfl)
theorem dX0_repaired_18 : decode cX0_repaired 18 = .ok (.isub, 1) := dk_100 (dk_at dksX0_repaired_0 18 rfl rfl)
theorem dX0_repaired_19 : decode cX0_repaired 19 = .ok (.invokestatic 72, 3) := dk_184 0 72 (dk_at dksX0_repaired_0 19 rfl rfl)
theorem dX0_repaired_22 : decode cX0_repaired 22 = .ok (.ifCond .eq 16, 3) := dk_153 0 16 (dk_at dksX0_repaired_1 0 rfl rfl)
theorem dX0_repaired_25 : decode cX0_repaired 25 = .ok (.aload_n 0, 1) := dk_42 (dk_at dksX0_repaired_1 3 rfl rfl)
theorem dX0_repaired_26 : decode cX0_repaired 26 = .ok (.getfield 37, 3) := dk_180 0 37 (dk_at dksX0_repaired_1 4 rfl rfl)
theorem dX0_repaired_29 : decode cX0_repaired 29 = .ok (.iconst 4, 1) := dk_7 (dk_at dksX0_repaired_1 7 rfl rfl)
theorem dX0_repaired_30 : decode cX0_repaired 30 = .ok (.iload_n 1, 1) := dk_27 (dk_at dksX0_repaired_1 8 rfl rfl)
theorem dX0_repaired_31 : decode cX0_repaired 31 = .ok (.imul, 1) := dk_104 (dk_at dksX0_repaired_1 9 rfl rfl)
theorem dX0_repaired_32 : decode cX0_repaired 32 = .ok (.iload_n 2, 1) := dk_28 (dk_at dksX0_repaired_1 10 rfl rfl)
theorem dX0_repaired_33 : decode cX0_repaired 33 = .ok (.iadd, 1) := dk_96 (dk_at dksX0_repaired_1 11 rfl rfl)
theorem dX0_repaired_34 : decode cX0_repaired 34 = .ok (.iaload, 1) := dk_46 (dk_at dksX0_repaired_1 12 rfl rfl)
theorem dX0_repaired_35 : decode cX0_repaired 35 = .ok (.goto 5, 3) := dk_167 0 5 (dk_at dksX0_repaired_1 13 rfl rfl)
theorem dX0_repaired_38 : decode cX0_repaired 38 = .ok (.bipush (-2), 2) := dk_16 254 (dk_at dksX0_repaired_1 16 rfl rfl)
theorem dX0_repaired_40 : decode cX0_repaired 40 = .ok (.ireturn, 1) := dk_172 (dk_at dksX0_repaired_1 18 rfl rfl)
abbrev cX0_bestMinutes : ByteArray := prog_1_method_86_code
def yX0_bestMinutes : MethodName := ⟨RX0, "bestMinutes", "(I)I"⟩
def dkwX0_bestMinutes_1 : List UInt8 := [167, 0, 5, 16, 254, 172]
abbrev dktX0_bestMinutes_1 : List UInt8 := dkwX0_bestMinutes_1 ++ []
def dkwX0_bestMinutes_0 : List UInt8 := [42, 27, 182, 1, 14, 154, 0, 5, 2, 172, 42, 27, 182, 1, 129, 153, 0, 10, 42, 180, 1, 120]
abbrev dktX0_bestMinutes_0 : List UInt8 := dkwX0_bestMinutes_0 ++ dktX0_bestMinutes_1
theorem dksX0_bestMinutes_0 : cX0_bestMinutes.data.toList.drop 0 = dktX0_bestMinutes_0 := by decide +kernel
theorem dksX0_bestMinutes_1 : cX0_bestMinutes.data.toList.drop 22 = dktX0_bestMinutes_1 := dk_seg dksX0_bestMinutes_0 22 rfl rfl
theorem dX0_bestMinutes_0 : decode cX0_bestMinutes 0 = .ok (.aload_n 0, 1) := dk_42 (dk_at dksX0_bestMinutes_0 0 rfl rfl)
theorem dX0_bestMinutes_1 : decode cX0_bestMinutes 1 = .ok (.iload_n 1, 1) := dk_27 (dk_at dksX0_bestMinutes_0 1 rfl rfl)
theorem dX0_bestMinutes_2 : decode cX0_bestMinutes 2 = .ok (.invokevirtual 270, 3) := dk_182 1 14 (dk_at dksX0_bestMinutes_0 2 rfl rfl)
theorem dX0_bestMinutes_5 : decode cX0_bestMinutes 5 = .ok (.ifCond .ne 5, 3) := dk_154 0 5 (dk_at dksX0_bestMinutes_0 5 rfl rfl)
theorem dX0_bestMinutes_8 : decode cX0_bestMinutes 8 = .ok (.iconst (-1), 1) := dk_2 (dk_at dksX0_bestMinutes_0 8 rfl rfl)
theorem dX0_bestMinutes_9 : decode cX0_bestMinutes 9 = .ok (.ireturn, 1) := dk_172 (dk_at dksX0_bestMinutes_0 9 rfl rfl)
theorem dX0_bestMinutes_10 : decode cX0_bestMinutes 10 = .ok (.aload_n 0, 1) := dk_42 (dk_at dksX0_bestMinutes_0 10 rfl rfl)
theorem dX0_bestMinutes_11 : decode cX0_bestMinutes 11 = .ok (.iload_n 1, 1) := dk_27 (dk_at dksX0_bestMinutes_0 11 rfl rfl)
theorem dX0_bestMinutes_12 : decode cX0_bestMinutes 12 = .ok (.invokevirtual 385, 3) := dk_182 1 129 (dk_at dksX0_bestMinutes_0 12 rfl rfl)
theorem dX0_bestMinutes_15 : decode cX0_bestMinutes 15 = .ok (.ifCond .eq 10, 3) := dk_153 0 10 (dk_at dksX0_bestMinutes_0 15 rfl rfl)
theorem dX0_bestMinutes_18 : decode cX0_bestMinutes 18 = .ok (.aload_n 0, 1) := dk_42 (dk_at dksX0_bestMinutes_0 18 rfl rfl)
theorem dX0_bestMinutes_19 : decode cX0_bestMinutes 19 = .ok (.getfield 376, 3) := dk_180 1 120 (dk_at dksX0_bestMinutes_0 19 rfl rfl)
theorem dX0_bestMinutes_22 : decode cX0_bestMinutes 22 = .ok (.goto 5, 3) := dk_167 0 5 (dk_at dksX0_bestMinutes_1 0 rfl rfl)
theorem dX0_bestMinutes_25 : decode cX0_bestMinutes 25 = .ok (.bipush (-2), 2) := dk_16 254 (dk_at dksX0_bestMinutes_1 3 rfl rfl)
theorem dX0_bestMinutes_27 : decode cX0_bestMinutes 27 = .ok (.ireturn, 1) := dk_172 (dk_at dksX0_bestMinutes_1 5 rfl rfl)
abbrev cX0_findBest : ByteArray := prog_1_method_85_code
def yX0_findBest : MethodName := ⟨RX0, "findBest", "(I)Z"⟩
def dkwX0_findBest_1 : List UInt8 := [180, 1, 123, 158, 0, 7, 4, 167, 0, 4, 3, 172]
abbrev dktX0_findBest_1 : List UInt8 := dkwX0_findBest_1 ++ []
def dkwX0_findBest_0 : List UInt8 := [42, 27, 182, 1, 0, 42, 3, 181, 1, 123, 42, 3, 181, 1, 120, 42, 27, 3, 3, 182, 1, 126, 42]
abbrev dktX0_findBest_0 : List UInt8 := dkwX0_findBest_0 ++ dktX0_findBest_1
theorem dksX0_findBest_0 : cX0_findBest.data.toList.drop 0 = dktX0_findBest_0 := by decide +kernel
theorem dksX0_findBest_1 : cX0_findBest.data.toList.drop 23 = dktX0_findBest_1 := dk_seg dksX0_findBest_0 23 rfl rfl
theorem dX0_findBest_0 : decode cX0_findBest 0 = .ok (.aload_n 0, 1) := dk_42 (dk_at dksX0_findBest_0 0 rfl rfl)
theorem dX0_findBest_1 : decode cX0_findBest 1 = .ok (.iload_n 1, 1) := dk_27 (dk_at dksX0_findBest_0 1 rfl rfl)
theorem dX0_findBest_2 : decode cX0_findBest 2 = .ok (.invokevirtual 256, 3) := dk_182 1 0 (dk_at dksX0_findBest_0 2 rfl rfl)
theorem dX0_findBest_5 : decode cX0_findBest 5 = .ok (.aload_n 0, 1) := dk_42 (dk_at dksX0_findBest_0 5 rfl rfl)
theorem dX0_findBest_6 : decode cX0_findBest 6 = .ok (.iconst 0, 1) := dk_3 (dk_at dksX0_findBest_0 6 rfl rfl)
theorem dX0_findBest_7 : decode cX0_findBest 7 = .ok (.putfield 379, 3) := dk_181 1 123 (dk_at dksX0_findBest_0 7 rfl rfl)
theorem dX0_findBest_10 : decode cX0_findBest 10 = .ok (.aload_n 0, 1) := dk_42 (dk_at dksX0_findBest_0 10 rfl rfl)
theorem dX0_findBest_11 : decode cX0_findBest 11 = .ok (.iconst 0, 1) := dk_3 (dk_at dksX0_findBest_0 11 rfl rfl)
theorem dX0_findBest_12 : decode cX0_findBest 12 = .ok (.putfield 376, 3) := dk_181 1 120 (dk_at dksX0_findBest_0 12 rfl rfl)
theorem dX0_findBest_15 : decode cX0_findBest 15 = .ok (.aload_n 0, 1) := dk_42 (dk_at dksX0_findBest_0 15 rfl rfl)
theorem dX0_findBest_16 : decode cX0_findBest 16 = .ok (.iload_n 1, 1) := dk_27 (dk_at dksX0_findBest_0 16 rfl rfl)
theorem dX0_findBest_17 : decode cX0_findBest 17 = .ok (.iconst 0, 1) := dk_3 (dk_at dksX0_findBest_0 17 rfl rfl)
theorem dX0_findBest_18 : decode cX0_findBest 18 = .ok (.iconst 0, 1) := dk_3 (dk_at dksX0_findBest_0 18 rfl rfl)
theorem dX0_findBest_19 : decode cX0_findBest 19 = .ok (.invokevirtual 382, 3) := dk_182 1 126 (dk_at dksX0_findBest_0 19 rfl rfl)
theorem dX0_findBest_22 : decode cX0_findBest 22 = .ok (.aload_n 0, 1) := dk_42 (dk_at dksX0_findBest_0 22 rfl rfl)
theorem dX0_findBest_23 : decode cX0_findBest 23 = .ok (.getfield 379, 3) := dk_180 1 123 (dk_at dksX0_findBest_1 0 rfl rfl)
theorem dX0_findBest_26 : decode cX0_findBest 26 = .ok (.ifCond .le 7, 3) := dk_158 0 7 (dk_at dksX0_findBest_1 3 rfl rfl)
theorem dX0_findBest_29 : decode cX0_findBest 29 = .ok (.iconst 1, 1) := dk_4 (dk_at dksX0_findBest_1 6 rfl rfl)
theorem dX0_findBest_30 : decode cX0_findBest 30 = .ok (.goto 4, 3) := dk_167 0 4 (dk_at dksX0_findBest_1 7 rfl rfl)
theorem dX0_findBest_33 : decode cX0_findBest 33 = .ok (.iconst 0, 1) := dk_3 (dk_at dksX0_findBest_1 10 rfl rfl)
theorem dX0_findBest_34 : decode cX0_findBest 34 = .ok (.ireturn, 1) := dk_172 (dk_at dksX0_findBest_1 11 rfl rfl)
abbrev cX0_search : ByteArray := prog_1_method_84_code
def yX0_search : MethodName := ⟨RX0, "search", "(III)V"⟩
def dkwX0_search_9 : List UInt8 := [167, 255, 130, 177]
abbrev dktX0_search_9 : List UInt8 := dkwX0_search_9 ++ []
def dkwX0_search_8 : List UInt8 := [182, 0, 118, 182, 0, 223, 96, 182, 1, 126, 42, 89, 180, 0, 202, 4, 100, 181, 0, 202, 132, 5, 1]
abbrev dktX0_search_8 : List UInt8 := dkwX0_search_8 ++ dktX0_search_9
def dkwX0_search_7 : List UInt8 := [21, 5, 4, 182, 1, 7, 87, 42, 182, 1, 10, 153, 0, 22, 42, 27, 28, 4, 96, 29, 42, 21, 5]
abbrev dktX0_search_7 : List UInt8 := dkwX0_search_7 ++ dktX0_search_8
def dkwX0_search_6 : List UInt8 := [153, 0, 67, 42, 21, 5, 182, 1, 42, 154, 0, 6, 167, 0, 55, 42, 180, 0, 40, 28, 21, 5, 79, 42]
abbrev dktX0_search_6 : List UInt8 := dkwX0_search_6 ++ dktX0_search_7
def dkwX0_search_5 : List UInt8 := [180, 0, 202, 4, 100, 182, 0, 211, 180, 0, 130, 164, 0, 7, 4, 167, 0, 4, 3, 54, 6, 21, 6]
abbrev dktX0_search_5 : List UInt8 := dkwX0_search_5 ++ dktX0_search_6
def dkwX0_search_4 : List UInt8 := [182, 0, 66, 162, 0, 117, 42, 180, 0, 202, 153, 0, 28, 42, 21, 5, 182, 0, 118, 180, 0, 130, 42, 42]
abbrev dktX0_search_4 : List UInt8 := dkwX0_search_4 ++ dktX0_search_5
def dkwX0_search_3 : List UInt8 := [184, 0, 91, 28, 16, 6, 160, 0, 4, 177, 3, 54, 5, 21, 5, 42, 180, 0, 10, 180, 0, 62]
abbrev dktX0_search_3 : List UInt8 := dkwX0_search_3 ++ dktX0_search_4
def dkwX0_search_2 : List UInt8 := [153, 0, 27, 42, 28, 181, 1, 123, 42, 29, 181, 1, 120, 42, 180, 0, 40, 3, 42, 180, 0, 43, 3, 28]
abbrev dktX0_search_2 : List UInt8 := dkwX0_search_2 ++ dktX0_search_3
def dkwX0_search_1 : List UInt8 := [180, 1, 123, 162, 0, 7, 4, 167, 0, 4, 3, 54, 4, 21, 4, 153, 0, 34, 42, 182, 1, 36]
abbrev dktX0_search_1 : List UInt8 := dkwX0_search_1 ++ dktX0_search_2
def dkwX0_search_0 : List UInt8 := [28, 158, 0, 31, 29, 42, 180, 1, 120, 163, 0, 19, 29, 42, 180, 1, 120, 160, 0, 15, 28, 42]
abbrev dktX0_search_0 : List UInt8 := dkwX0_search_0 ++ dktX0_search_1
theorem dksX0_search_0 : cX0_search.data.toList.drop 0 = dktX0_search_0 := by decide +kernel
theorem dksX0_search_1 : cX0_search.data.toList.drop 22 = dktX0_search_1 := dk_seg dksX0_search_0 22 rfl rfl
theorem dksX0_search_2 : cX0_search.data.toList.drop 44 = dktX0_search_2 := dk_seg dksX0_search_1 22 rfl rfl
theorem dksX0_search_3 : cX0_search.data.toList.drop 68 = dktX0_search_3 := dk_seg dksX0_search_2 24 rfl rfl
theorem dksX0_search_4 : cX0_search.data.toList.drop 90 = dktX0_search_4 := dk_seg dksX0_search_3 22 rfl rfl
theorem dksX0_search_5 : cX0_search.data.toList.drop 114 = dktX0_search_5 := dk_seg dksX0_search_4 24 rfl rfl
theorem dksX0_search_6 : cX0_search.data.toList.drop 137 = dktX0_search_6 := dk_seg dksX0_search_5 23 rfl rfl
theorem dksX0_search_7 : cX0_search.data.toList.drop 161 = dktX0_search_7 := dk_seg dksX0_search_6 24 rfl rfl
theorem dksX0_search_8 : cX0_search.data.toList.drop 184 = dktX0_search_8 := dk_seg dksX0_search_7 23 rfl rfl
theorem dksX0_search_9 : cX0_search.data.toList.drop 207 = dktX0_search_9 := dk_seg dksX0_search_8 23 rfl rfl
theorem dX0_search_0 : decode cX0_search 0 = .ok (.iload_n 2, 1) := dk_28 (dk_at dksX0_search_0 0 rfl rfl)
theorem dX0_search_1 : decode cX0_search 1 = .ok (.ifCond .le 31, 3) := dk_158 0 31 (dk_at dksX0_search_0 1 rfl rfl)
theorem dX0_search_4 : decode cX0_search 4 = .ok (.iload_n 3, 1) := dk_29 (dk_at dksX0_search_0 4 rfl rfl)
theorem dX0_search_5 : decode cX0_search 5 = .ok (.aload_n 0, 1) := dk_42 (dk_at dksX0_search_0 5 rfl rfl)
theorem dX0_search_6 : decode cX0_search 6 = .ok (.getfield 376, 3) := dk_180 1 120 (dk_at dksX0_search_0 6 rfl rfl)
theorem dX0_search_9 : decode cX0_search 9 = .ok (.if_icmp .gt 19, 3) := dk_163 0 19 (dk_at dksX0_search_0 9 rfl rfl)
theorem dX0_search_12 : decode cX0_search 12 = .ok (.iload_n 3, 1) := dk_29 (dk_at dksX0_search_0 12 rfl rfl)
theorem dX0_search_13 : decode cX0_search 13 = .ok (.aload_n 0, 1) := dk_42 (dk_at dksX0_search_0 13 rfl rfl)
theorem dX0_search_14 : decode cX0_search 14 = .ok (.getfield 376, 3) := dk_180 1 120 (dk_at dksX0_search_0 14 rfl rfl)
theorem dX0_search_17 : decode cX0_search 17 = .ok (.if_icmp .ne 15, 3) := dk_160 0 15 (dk_at dksX0_search_0 17 rfl rfl)
theorem dX0_search_20 : decode cX0_search 20 = .ok (.iload_n 2, 1) := dk_28 (dk_at dksX0_search_0 20 rfl rfl)
theorem dX0_search_21 : decode cX0_search 21 = .ok (.aload_n 0, 1) := dk_42 (dk_at dksX0_search_0 21 rfl rfl)
theorem dX0_search_22 : decode cX0_search 22 = .ok (.getfield 379, 3) := dk_180 1 123 (dk_at dksX0_search_1 0 rfl rfl)
theorem dX0_search_25 : decode cX0_search 25 = .ok (.if_icmp .ge 7, 3) := dk_162 0 7 (dk_at dksX0_search_1 3 rfl rfl)
theorem dX0_search_28 : decode cX0_search 28 = .ok (.iconst 1, 1) := dk_4 (dk_at dksX0_search_1 6 rfl rfl)
theorem dX0_search_29 : decode cX0_search 29 = .ok (.goto 4, 3) := dk_167 0 4 (dk_at dksX0_search_1 7 rfl rfl)
theorem dX0_search_32 : decode cX0_search 32 = .ok (.iconst 0, 1) := dk_3 (dk_at dksX0_search_1 10 rfl rfl)
theorem dX0_search_33 : decode cX0_search 33 = .ok (.istore 4, 2) := dk_54 4 (dk_at dksX0_search_1 11 rfl rfl)
theorem dX0_search_35 : decode cX0_search 35 = .ok (.iload 4, 2) := dk_21 4 (dk_at dksX0_search_1 13 rfl rfl)
theorem dX0_search_37 : decode cX0_search 37 = .ok (.ifCond .eq 34, 3) := dk_153 0 34 (dk_at dksX0_search_1 15 rfl rfl)
theorem dX0_search_40 : decode cX0_search 40 = .ok (.aload_n 0, 1) := dk_42 (dk_at dksX0_search_1 18 rfl rfl)
theorem dX0_search_41 : decode cX0_search 41 = .ok (.invokevirtual 292, 3) := dk_182 1 36 (dk_at dksX0_search_1 19 rfl rfl)
theorem dX0_search_44 : decode cX0_search 44 = .ok (.ifCond .eq 27, 3) := dk_153 0 27 (dk_at dksX0_search_2 0 rfl rfl)
theorem dX0_search_47 : decode cX0_search 47 = .ok (.aload_n 0, 1) := dk_42 (dk_at dksX0_search_2 3 rfl rfl)
theorem dX0_search_48 : decode cX0_search 48 = .ok (.iload_n 2, 1) := dk_28 (dk_at dksX0_search_2 4 rfl rfl)
theorem dX0_search_49 : decode cX0_search 49 = .ok (.putfield 379, 3) := dk_181 1 123 (dk_at dksX0_search_2 5 rfl rfl)
theorem dX0_search_52 : decode cX0_search 52 = .ok (.aload_n 0, 1) := dk_42 (dk_at dksX0_search_2 8 rfl rfl)
theorem dX0_search_53 : decode cX0_search 53 = .ok (.iload_n 3, 1) := dk_29 (dk_at dksX0_search_2 9 rfl rfl)
theorem dX0_search_54 : decode cX0_search 54 = .ok (.putfield 376, 3) := dk_181 1 120 (dk_at dksX0_search_2 10 rfl rfl)
theorem dX0_search_57 : decode cX0_search 57 = .ok (.aload_n 0, 1) := dk_42 (dk_at dksX0_search_2 13 rfl rfl)
theorem dX0_search_58 : decode cX0_search 58 = .ok (.getfield 40, 3) := dk_180 0 40 (dk_at dksX0_search_2 14 rfl rfl)
theorem dX0_search_61 : decode cX0_search 61 = .ok (.iconst 0, 1) := dk_3 (dk_at dksX0_search_2 17 rfl rfl)
theorem dX0_search_62 : decode cX0_search 62 = .ok (.aload_n 0, 1) := dk_42 (dk_at dksX0_search_2 18 rfl rfl)
theorem dX0_search_63 : decode cX0_search 63 = .ok (.getfield 43, 3) := dk_180 0 43 (dk_at dksX0_search_2 19 rfl rfl)
theorem dX0_search_66 : decode cX0_search 66 = .ok (.iconst 0, 1) := dk_3 (dk_at dksX0_search_2 22 rfl rfl)
theorem dX0_search_67 : decode cX0_search 67 = .ok (.iload_n 2, 1) := dk_28 (dk_at dksX0_search_2 23 rfl rfl)
theorem dX0_search_68 : decode cX0_search 68 = .ok (.invokestatic 91, 3) := dk_184 0 91 (dk_at dksX0_search_3 0 rfl rfl)
theorem dX0_search_71 : decode cX0_search 71 = .ok (.iload_n 2, 1) := dk_28 (dk_at dksX0_search_3 3 rfl rfl)
theorem dX0_search_72 : decode cX0_search 72 = .ok (.bipush 6, 2) := dk_16 6 (dk_at dksX0_search_3 4 rfl rfl)
theorem dX0_search_74 : decode cX0_search 74 = .ok (.if_icmp .ne 4, 3) := dk_160 0 4 (dk_at dksX0_search_3 6 rfl rfl)
theorem dX0_search_77 : decode cX0_search 77 = .ok (.return_, 1) := dk_177 (dk_at dksX0_search_3 9 rfl rfl)
theorem dX0_search_78 : decode cX0_search 78 = .ok (.iconst 0, 1) := dk_3 (dk_at dksX0_search_3 10 rfl rfl)
theorem dX0_search_79 : decode cX0_search 79 = .ok (.istore 5, 2) := dk_54 5 (dk_at dksX0_search_3 11 rfl rfl)
theorem dX0_search_81 : decode cX0_search 81 = .ok (.iload 5, 2) := dk_21 5 (dk_at dksX0_search_3 13 rfl rfl)
theorem dX0_search_83 : decode cX0_search 83 = .ok (.aload_n 0, 1) := dk_42 (dk_at dksX0_search_3 15 rfl rfl)
theorem dX0_search_84 : decode cX0_search 84 = .ok (.getfield 10, 3) := dk_180 0 10 (dk_at dksX0_search_3 16 rfl rfl)
theorem dX0_search_87 : decode cX0_search 87 = .ok (.getfield 62, 3) := dk_180 0 62 (dk_at dksX0_search_3 19 rfl rfl)
theorem dX0_search_90 : decode cX0_search 90 = .ok (.invokevirtual 66, 3) := dk_182 0 66 (dk_at dksX0_search_4 0 rfl rfl)
theorem dX0_search_93 : decode cX0_search 93 = .ok (.if_icmp .ge 117, 3) := dk_162 0 117 (dk_at dksX0_search_4 3 rfl rfl)
theorem dX0_search_96 : decode cX0_search 96 = .ok (.aload_n 0, 1) := dk_42 (dk_at dksX0_search_4 6 rfl rfl)
theorem dX0_search_97 : decode cX0_search 97 = .ok (.getfield 202, 3) := dk_180 0 202 (dk_at dksX0_search_4 7 rfl rfl)
theorem dX0_search_100 : decode cX0_search 100 = .ok (.ifCond .eq 28, 3) := dk_153 0 28 (dk_at dksX0_search_4 10 rfl rfl)
theorem dX0_search_103 : decode cX0_search 103 = .ok (.aload_n 0, 1) := dk_42 (dk_at dksX0_search_4 13 rfl rfl)
theorem dX0_search_104 : decode cX0_search 104 = .ok (.iload 5, 2) := dk_21 5 (dk_at dksX0_search_4 14 rfl rfl)
theorem dX0_search_106 : decode cX0_search 106 = .ok (.invokevirtual 118, 3) := dk_182 0 118 (dk_at dksX0_search_4 16 rfl rfl)
theorem dX0_search_109 : decode cX0_search 109 = .ok (.getfield 130, 3) := dk_180 0 130 (dk_at dksX0_search_4 19 rfl rfl)
theorem dX0_search_112 : decode cX0_search 112 = .ok (.aload_n 0, 1) := dk_42 (dk_at dksX0_search_4 22 rfl rfl)
theorem dX0_search_113 : decode cX0_search 113 = .ok (.aload_n 0, 1) := dk_42 (dk_at dksX0_search_4 23 rfl rfl)
theorem dX0_search_114 : decode cX0_search 114 = .ok (.getfield 202, 3) := dk_180 0 202 (dk_at dksX0_search_5 0 rfl rfl)
theorem dX0_search_117 : decode cX0_search 117 = .ok (.iconst 1, 1) := dk_4 (dk_at dksX0_search_5 3 rfl rfl)
theorem dX0_search_118 : decode cX0_search 118 = .ok (.isub, 1) := dk_100 (dk_at dksX0_search_5 4 rfl rfl)
theorem dX0_search_119 : decode cX0_search 119 = .ok (.invokevirtual 211, 3) := dk_182 0 211 (dk_at dksX0_search_5 5 rfl rfl)
theorem dX0_search_122 : decode cX0_search 122 = .ok (.getfield 130, 3) := dk_180 0 130 (dk_at dksX0_search_5 8 rfl rfl)
theorem dX0_search_125 : decode cX0_search 125 = .ok (.if_icmp .le 7, 3) := dk_164 0 7 (dk_at dksX0_search_5 11 rfl rfl)
theorem dX0_search_128 : decode cX0_search 128 = .ok (.iconst 1, 1) := dk_4 (dk_at dksX0_search_5 14 rfl rfl)
theorem dX0_search_129 : decode cX0_search 129 = .ok (.goto 4, 3) := dk_167 0 4 (dk_at dksX0_search_5 15 rfl rfl)
theorem dX0_search_132 : decode cX0_search 132 = .ok (.iconst 0, 1) := dk_3 (dk_at dksX0_search_5 18 rfl rfl)
theorem dX0_search_133 : decode cX0_search 133 = .ok (.istore 6, 2) := dk_54 6 (dk_at dksX0_search_5 19 rfl rfl)
theorem dX0_search_135 : decode cX0_search 135 = .ok (.iload 6, 2) := dk_21 6 (dk_at dksX0_search_5 21 rfl rfl)
theorem dX0_search_137 : decode cX0_search 137 = .ok (.ifCond .eq 67, 3) := dk_153 0 67 (dk_at dksX0_search_6 0 rfl rfl)
theorem dX0_search_140 : decode cX0_search 140 = .ok (.aload_n 0, 1) := dk_42 (dk_at dksX0_search_6 3 rfl rfl)
theorem dX0_search_141 : decode cX0_search 141 = .ok (.iload 5, 2) := dk_21 5 (dk_at dksX0_search_6 4 rfl rfl)
theorem dX0_search_143 : decode cX0_search 143 = .ok (.invokevirtual 298, 3) := dk_182 1 42 (dk_at dksX0_search_6 6 rfl rfl)
theorem dX0_search_146 : decode cX0_search 146 = .ok (.ifCond .ne 6, 3) := dk_154 0 6 (dk_at dksX0_search_6 9 rfl rfl)
theorem dX0_search_149 : decode cX0_search 149 = .ok (.goto 55, 3) := dk_167 0 55 (dk_at dksX0_search_6 12 rfl rfl)
theorem dX0_search_152 : decode cX0_search 152 = .ok (.aload_n 0, 1) := dk_42 (dk_at dksX0_search_6 15 rfl rfl)
theorem dX0_search_153 : decode cX0_search 153 = .ok (.getfield 40, 3) := dk_180 0 40 (dk_at dksX0_search_6 16 rfl rfl)
theorem dX0_search_156 : decode cX0_search 156 = .ok (.iload_n 2, 1) := dk_28 (dk_at dksX0_search_6 19 rfl rfl)
theorem dX0_search_157 : decode cX0_search 157 = .ok (.iload 5, 2) := dk_21 5 (dk_at dksX0_search_6 20 rfl rfl)
theorem dX0_search_159 : decode cX0_search 159 = .ok (.iastore, 1) := dk_79 (dk_at dksX0_search_6 22 rfl rfl)
theorem dX0_search_160 : decode cX0_search 160 = .ok (.aload_n 0, 1) := dk_42 (dk_at dksX0_search_6 23 rfl rfl)
theorem dX0_search_161 : decode cX0_search 161 = .ok (.iload 5, 2) := dk_21 5 (dk_at dksX0_search_7 0 rfl rfl)
theorem dX0_search_163 : decode cX0_search 163 = .ok (.iconst 1, 1) := dk_4 (dk_at dksX0_search_7 2 rfl rfl)
theorem dX0_search_164 : decode cX0_search 164 = .ok (.invokevirtual 263, 3) := dk_182 1 7 (dk_at dksX0_search_7 3 rfl rfl)
theorem dX0_search_167 : decode cX0_search 167 = .ok (.pop, 1) := dk_87 (dk_at dksX0_search_7 6 rfl rfl)
theorem dX0_search_168 : decode cX0_search 168 = .ok (.aload_n 0, 1) := dk_42 (dk_at dksX0_search_7 7 rfl rfl)
theorem dX0_search_169 : decode cX0_search 169 = .ok (.invokevirtual 266, 3) := dk_182 1 10 (dk_at dksX0_search_7 8 rfl rfl)
theorem dX0_search_172 : decode cX0_search 172 = .ok (.ifCond .eq 22, 3) := dk_153 0 22 (dk_at dksX0_search_7 11 rfl rfl)
theorem dX0_search_175 : decode cX0_search 175 = .ok (.aload_n 0, 1) := dk_42 (dk_at dksX0_search_7 14 rfl rfl)
theorem dX0_search_176 : decode cX0_search 176 = .ok (.iload_n 1, 1) := dk_27 (dk_at dksX0_search_7 15 rfl rfl)
theorem dX0_search_177 : decode cX0_search 177 = .ok (.iload_n 2, 1) := dk_28 (dk_at dksX0_search_7 16 rfl rfl)
theorem dX0_search_178 : decode cX0_search 178 = .ok (.iconst 1, 1) := dk_4 (dk_at dksX0_search_7 17 rfl rfl)
theorem dX0_search_179 : decode cX0_search 179 = .ok (.iadd, 1) := dk_96 (dk_at dksX0_search_7 18 rfl rfl)
theorem dX0_search_180 : decode cX0_search 180 = .ok (.iload_n 3, 1) := dk_29 (dk_at dksX0_search_7 19 rfl rfl)
theorem dX0_search_181 : decode cX0_search 181 = .ok (.aload_n 0, 1) := dk_42 (dk_at dksX0_search_7 20 rfl rfl)
theorem dX0_search_182 : decode cX0_search 182 = .ok (.iload 5, 2) := dk_21 5 (dk_at dksX0_search_7 21 rfl rfl)
theorem dX0_search_184 : decode cX0_search 184 = .ok (.invokevirtual 118, 3) := dk_182 0 118 (dk_at dksX0_search_8 0 rfl rfl)
theorem dX0_search_187 : decode cX0_search 187 = .ok (.invokevirtual 223, 3) := dk_182 0 223 (dk_at dksX0_search_8 3 rfl rfl)
theorem dX0_search_190 : decode cX0_search 190 = .ok (.iadd, 1) := dk_96 (dk_at dksX0_search_8 6 rfl rfl)
theorem dX0_search_191 : decode cX0_search 191 = .ok (.invokevirtual 382, 3) := dk_182 1 126 (dk_at dksX0_search_8 7 rfl rfl)
theorem dX0_search_194 : decode cX0_search 194 = .ok (.aload_n 0, 1) := dk_42 (dk_at dksX0_search_8 10 rfl rfl)
theorem dX0_search_195 : decode cX0_search 195 = .ok (.dup, 1) := dk_89 (dk_at dksX0_search_8 11 rfl rfl)
theorem dX0_search_196 : decode cX0_search 196 = .ok (.getfield 202, 3) := dk_180 0 202 (dk_at dksX0_search_8 12 rfl rfl)
theorem dX0_search_199 : decode cX0_search 199 = .ok (.iconst 1, 1) := dk_4 (dk_at dksX0_search_8 15 rfl rfl)
theorem dX0_search_200 : decode cX0_search 200 = .ok (.isub, 1) := dk_100 (dk_at dksX0_search_8 16 rfl rfl)
theorem dX0_search_201 : decode cX0_search 201 = .ok (.putfield 202, 3) := dk_181 0 202 (dk_at dksX0_search_8 17 rfl rfl)
theorem dX0_search_204 : decode cX0_search 204 = .ok (.iinc 5 1, 3) := dk_132 5 1 (dk_at dksX0_search_8 20 rfl rfl)
theorem dX0_search_207 : decode cX0_search 207 = .ok (.goto (-126), 3) := dk_167 255 130 (dk_at dksX0_search_9 0 rfl rfl)
theorem dX0_search_210 : decode cX0_search 210 = .ok (.return_, 1) := dk_177 (dk_at dksX0_search_9 3 rfl rfl)
abbrev cX0_bestLeg : ByteArray := prog_1_method_87_code
def yX0_bestLeg : MethodName := ⟨RX0, "bestLeg", "(II)I"⟩
def dkwX0_bestLeg_2 : List UInt8 := [42, 180, 0, 43, 28, 46, 167, 0, 5, 16, 254, 172]
abbrev dktX0_bestLeg_2 : List UInt8 := dkwX0_bestLeg_2 ++ []
def dkwX0_bestLeg_1 : List UInt8 := [160, 0, 10, 42, 180, 1, 123, 167, 0, 28, 28, 3, 42, 180, 1, 123, 4, 100, 184, 0, 72, 153, 0, 12]
abbrev dktX0_bestLeg_1 : List UInt8 := dkwX0_bestLeg_1 ++ dktX0_bestLeg_2
def dkwX0_bestLeg_0 : List UInt8 := [42, 27, 182, 1, 14, 154, 0, 5, 2, 172, 42, 27, 182, 1, 129, 154, 0, 6, 16, 254, 172, 28, 2]
abbrev dktX0_bestLeg_0 : List UInt8 := dkwX0_bestLeg_0 ++ dktX0_bestLeg_1
theorem dksX0_bestLeg_0 : cX0_bestLeg.data.toList.drop 0 = dktX0_bestLeg_0 := by decide +kernel
theorem dksX0_bestLeg_1 : cX0_bestLeg.data.toList.drop 23 = dktX0_bestLeg_1 := dk_seg dksX0_bestLeg_0 23 rfl rfl
theorem dksX0_bestLeg_2 : cX0_bestLeg.data.toList.drop 47 = dktX0_bestLeg_2 := dk_seg dksX0_bestLeg_1 24 rfl rfl
theorem dX0_bestLeg_0 : decode cX0_bestLeg 0 = .ok (.aload_n 0, 1) := dk_42 (dk_at dksX0_bestLeg_0 0 rfl rfl)
theorem dX0_bestLeg_1 : decode cX0_bestLeg 1 = .ok (.iload_n 1, 1) := dk_27 (dk_at dksX0_bestLeg_0 1 rfl rfl)
theorem dX0_bestLeg_2 : decode cX0_bestLeg 2 = .ok (.invokevirtual 270, 3) := dk_182 1 14 (dk_at dksX0_bestLeg_0 2 rfl rfl)
theorem dX0_bestLeg_5 : decode cX0_bestLeg 5 = .ok (.ifCond .ne 5, 3) := dk_154 0 5 (dk_at dksX0_bestLeg_0 5 rfl rfl)
theorem dX0_bestLeg_8 : decode cX0_bestLeg 8 = .ok (.iconst (-1), 1) := dk_2 (dk_at dksX0_bestLeg_0 8 rfl rfl)
theorem dX0_bestLeg_9 : decode cX0_bestLeg 9 = .ok (.ireturn, 1) := dk_172 (dk_at dksX0_bestLeg_0 9 rfl rfl)
theorem dX0_bestLeg_10 : decode cX0_bestLeg 10 = .ok (.aload_n 0, 1) := dk_42 (dk_at dksX0_bestLeg_0 10 rfl rfl)
theorem dX0_bestLeg_11 : decode cX0_bestLeg 11 = .ok (.iload_n 1, 1) := dk_27 (dk_at dksX0_bestLeg_0 11 rfl rfl)
theorem dX0_bestLeg_12 : decode cX0_bestLeg 12 = .ok (.invokevirtual 385, 3) := dk_182 1 129 (dk_at dksX0_bestLeg_0 12 rfl rfl)
theorem dX0_bestLeg_15 : decode cX0_bestLeg 15 = .ok (.ifCond .ne 6, 3) := dk_154 0 6 (dk_at dksX0_bestLeg_0 15 rfl rfl)
theorem dX0_bestLeg_18 : decode cX0_bestLeg 18 = .ok (.bipush (-2), 2) := dk_16 254 (dk_at dksX0_bestLeg_0 18 rfl rfl)
theorem dX0_bestLeg_20 : decode cX0_bestLeg 20 = .ok (.ireturn, 1) := dk_172 (dk_at dksX0_bestLeg_0 20 rfl rfl)
theorem dX0_bestLeg_21 : decode cX0_bestLeg 21 = .ok (.iload_n 2, 1) := dk_28 (dk_at dksX0_bestLeg_0 21 rfl rfl)
theorem dX0_bestLeg_22 : decode cX0_bestLeg 22 = .ok (.iconst (-1), 1) := dk_2 (dk_at dksX0_bestLeg_0 22 rfl rfl)
theorem dX0_bestLeg_23 : decode cX0_bestLeg 23 = .ok (.if_icmp .ne 10, 3) := dk_160 0 10 (dk_at dksX0_bestLeg_1 0 rfl rfl)
theorem dX0_bestLeg_26 : decode cX0_bestLeg 26 = .ok (.aload_n 0, 1) := dk_42 (dk_at dksX0_bestLeg_1 3 rfl rfl)
theorem dX0_bestLeg_27 : decode cX0_bestLeg 27 = .ok (.getfield 379, 3) := dk_180 1 123 (dk_at dksX0_bestLeg_1 4 rfl rfl)
theorem dX0_bestLeg_30 : decode cX0_bestLeg 30 = .ok (.goto 28, 3) := dk_167 0 28 (dk_at dksX0_bestLeg_1 7 rfl rfl)
theorem dX0_bestLeg_33 : decode cX0_bestLeg 33 = .ok (.iload_n 2, 1) := dk_28 (dk_at dksX0_bestLeg_1 10 rfl rfl)
theorem dX0_bestLeg_34 : decode cX0_bestLeg 34 = .ok (.iconst 0, 1) := dk_3 (dk_at dksX0_bestLeg_1 11 rfl rfl)
theorem dX0_bestLeg_35 : decode cX0_bestLeg 35 = .ok (.aload_n 0, 1) := dk_42 (dk_at dksX0_bestLeg_1 12 rfl rfl)
theorem dX0_bestLeg_36 : decode cX0_bestLeg 36 = .ok (.getfield 379, 3) := dk_180 1 123 (dk_at dksX0_bestLeg_1 13 rfl rfl)
theorem dX0_bestLeg_39 : decode cX0_bestLeg 39 = .ok (.iconst 1, 1) := dk_4 (dk_at dksX0_bestLeg_1 16 rfl rfl)
theorem dX0_bestLeg_40 : decode cX0_bestLeg 40 = .ok (.isub, 1) := dk_100 (dk_at dksX0_bestLeg_1 17 rfl rfl)
theorem dX0_bestLeg_41 : decode cX0_bestLeg 41 = .ok (.invokestatic 72, 3) := dk_184 0 72 (dk_at dksX0_bestLeg_1 18 rfl rfl)
theorem dX0_bestLeg_44 : decode cX0_bestLeg 44 = .ok (.ifCond .eq 12, 3) := dk_153 0 12 (dk_at dksX0_bestLeg_1 21 rfl rfl)
theorem dX0_bestLeg_47 : decode cX0_bestLeg 47 = .ok (.aload_n 0, 1) := dk_42 (dk_at dksX0_bestLeg_2 0 rfl rfl)
theorem dX0_bestLeg_48 : decode cX0_bestLeg 48 = .ok (.getfield 43, 3) := dk_180 0 43 (dk_at dksX0_bestLeg_2 1 rfl rfl)
theorem dX0_bestLeg_51 : decode cX0_bestLeg 51 = .ok (.iload_n 2, 1) := dk_28 (dk_at dksX0_bestLeg_2 4 rfl rfl)
theorem dX0_bestLeg_52 : decode cX0_bestLeg 52 = .ok (.iaload, 1) := dk_46 (dk_at dksX0_bestLeg_2 5 rfl rfl)
theorem dX0_bestLeg_53 : decode cX0_bestLeg 53 = .ok (.goto 5, 3) := dk_167 0 5 (dk_at dksX0_bestLeg_2 6 rfl rfl)
theorem dX0_bestLeg_56 : decode cX0_bestLeg 56 = .ok (.bipush (-2), 2) := dk_16 254 (dk_at dksX0_bestLeg_2 9 rfl rfl)
theorem dX0_bestLeg_58 : decode cX0_bestLeg 58 = .ok (.ireturn, 1) := dk_172 (dk_at dksX0_bestLeg_2 11 rfl rfl)
abbrev cX0_takeBest : ByteArray := prog_1_method_88_code
def yX0_takeBest : MethodName := ⟨RX0, "takeBest", "(I)I"⟩
def dkwX0_takeBest_2 : List UInt8 := [46, 4, 182, 1, 7, 87, 132, 2, 1, 167, 255, 233, 42, 27, 182, 1, 21, 42, 180, 1, 123, 172]
abbrev dktX0_takeBest_2 : List UInt8 := dkwX0_takeBest_2 ++ []
def dkwX0_takeBest_1 : List UInt8 := [182, 0, 112, 42, 27, 182, 1, 0, 3, 61, 28, 42, 180, 1, 123, 162, 0, 21, 42, 42, 180, 0, 43, 28]
abbrev dktX0_takeBest_1 : List UInt8 := dkwX0_takeBest_1 ++ dktX0_takeBest_2
def dkwX0_takeBest_0 : List UInt8 := [42, 27, 182, 1, 14, 154, 0, 5, 2, 172, 42, 27, 182, 1, 129, 154, 0, 6, 16, 254, 172, 42]
abbrev dktX0_takeBest_0 : List UInt8 := dkwX0_takeBest_0 ++ dktX0_takeBest_1
theorem dksX0_takeBest_0 : cX0_takeBest.data.toList.drop 0 = dktX0_takeBest_0 := by decide +kernel
theorem dksX0_takeBest_1 : cX0_takeBest.data.toList.drop 22 = dktX0_takeBest_1 := dk_seg dksX0_takeBest_0 22 rfl rfl
theorem dksX0_takeBest_2 : cX0_takeBest.data.toList.drop 46 = dktX0_takeBest_2 := dk_seg dksX0_takeBest_1 24 rfl rfl
theorem dX0_takeBest_0 : decode cX0_takeBest 0 = .ok (.aload_n 0, 1) := dk_42 (dk_at dksX0_takeBest_0 0 rfl rfl)
theorem dX0_takeBest_1 : decode cX0_takeBest 1 = .ok (.iload_n 1, 1) := dk_27 (dk_at dksX0_takeBest_0 1 rfl rfl)
theorem dX0_takeBest_2 : decode cX0_takeBest 2 = .ok (.invokevirtual 270, 3) := dk_182 1 14 (dk_at dksX0_takeBest_0 2 rfl rfl)
theorem dX0_takeBest_5 : decode cX0_takeBest 5 = .ok (.ifCond .ne 5, 3) := dk_154 0 5 (dk_at dksX0_takeBest_0 5 rfl rfl)
theorem dX0_takeBest_8 : decode cX0_takeBest 8 = .ok (.iconst (-1), 1) := dk_2 (dk_at dksX0_takeBest_0 8 rfl rfl)
theorem dX0_takeBest_9 : decode cX0_takeBest 9 = .ok (.ireturn, 1) := dk_172 (dk_at dksX0_takeBest_0 9 rfl rfl)
theorem dX0_takeBest_10 : decode cX0_takeBest 10 = .ok (.aload_n 0, 1) := dk_42 (dk_at dksX0_takeBest_0 10 rfl rfl)
theorem dX0_takeBest_11 : decode cX0_takeBest 11 = .ok (.iload_n 1, 1) := dk_27 (dk_at dksX0_takeBest_0 11 rfl rfl)
theorem dX0_takeBest_12 : decode cX0_takeBest 12 = .ok (.invokevirtual 385, 3) := dk_182 1 129 (dk_at dksX0_takeBest_0 12 rfl rfl)
theorem dX0_takeBest_15 : decode cX0_takeBest 15 = .ok (.ifCond .ne 6, 3) := dk_154 0 6 (dk_at dksX0_takeBest_0 15 rfl rfl)
theorem dX0_takeBest_18 : decode cX0_takeBest 18 = .ok (.bipush (-2), 2) := dk_16 254 (dk_at dksX0_takeBest_0 18 rfl rfl)
theorem dX0_takeBest_20 : decode cX0_takeBest 20 = .ok (.ireturn, 1) := dk_172 (dk_at dksX0_takeBest_0 20 rfl rfl)
theorem dX0_takeBest_21 : decode cX0_takeBest 21 = .ok (.aload_n 0, 1) := dk_42 (dk_at dksX0_takeBest_0 21 rfl rfl)
theorem dX0_takeBest_22 : decode cX0_takeBest 22 = .ok (.invokevirtual 112, 3) := dk_182 0 112 (dk_at dksX0_takeBest_1 0 rfl rfl)
theorem dX0_takeBest_25 : decode cX0_takeBest 25 = .ok (.aload_n 0, 1) := dk_42 (dk_at dksX0_takeBest_1 3 rfl rfl)
theorem dX0_takeBest_26 : decode cX0_takeBest 26 = .ok (.iload_n 1, 1) := dk_27 (dk_at dksX0_takeBest_1 4 rfl rfl)
theorem dX0_takeBest_27 : decode cX0_takeBest 27 = .ok (.invokevirtual 256, 3) := dk_182 1 0 (dk_at dksX0_takeBest_1 5 rfl rfl)
theorem dX0_takeBest_30 : decode cX0_takeBest 30 = .ok (.iconst 0, 1) := dk_3 (dk_at dksX0_takeBest_1 8 rfl rfl)
theorem dX0_takeBest_31 : decode cX0_takeBest 31 = .ok (.istore_n 2, 1) := dk_61 (dk_at dksX0_takeBest_1 9 rfl rfl)
theorem dX0_takeBest_32 : decode cX0_takeBest 32 = .ok (.iload_n 2, 1) := dk_28 (dk_at dksX0_takeBest_1 10 rfl rfl)
theorem dX0_takeBest_33 : decode cX0_takeBest 33 = .ok (.aload_n 0, 1) := dk_42 (dk_at dksX0_takeBest_1 11 rfl rfl)
theorem dX0_takeBest_34 : decode cX0_takeBest 34 = .ok (.getfield 379, 3) := dk_180 1 123 (dk_at dksX0_takeBest_1 12 rfl rfl)
theorem dX0_takeBest_37 : decode cX0_takeBest 37 = .ok (.if_icmp .ge 21, 3) := dk_162 0 21 (dk_at dksX0_takeBest_1 15 rfl rfl)
theorem dX0_takeBest_40 : decode cX0_takeBest 40 = .ok (.aload_n 0, 1) := dk_42 (dk_at dksX0_takeBest_1 18 rfl rfl)
theorem dX0_takeBest_41 : decode cX0_takeBest 41 = .ok (.aload_n 0, 1) := dk_42 (dk_at dksX0_takeBest_1 19 rfl rfl)
theorem dX0_takeBest_42 : decode cX0_takeBest 42 = .ok (.getfield 43, 3) := dk_180 0 43 (dk_at dksX0_takeBest_1 20 rfl rfl)
theorem dX0_takeBest_45 : decode cX0_takeBest 45 = .ok (.iload_n 2, 1) := dk_28 (dk_at dksX0_takeBest_1 23 rfl rfl)
theorem dX0_takeBest_46 : decode cX0_takeBest 46 = .ok (.iaload, 1) := dk_46 (dk_at dksX0_takeBest_2 0 rfl rfl)
theorem dX0_takeBest_47 : decode cX0_takeBest 47 = .ok (.iconst 1, 1) := dk_4 (dk_at dksX0_takeBest_2 1 rfl rfl)
theorem dX0_takeBest_48 : decode cX0_takeBest 48 = .ok (.invokevirtual 263, 3) := dk_182 1 7 (dk_at dksX0_takeBest_2 2 rfl rfl)
theorem dX0_takeBest_51 : decode cX0_takeBest 51 = .ok (.pop, 1) := dk_87 (dk_at dksX0_takeBest_2 5 rfl rfl)
theorem dX0_takeBest_52 : decode cX0_takeBest 52 = .ok (.iinc 2 1, 3) := dk_132 2 1 (dk_at dksX0_takeBest_2 6 rfl rfl)
theorem dX0_takeBest_55 : decode cX0_takeBest 55 = .ok (.goto (-23), 3) := dk_167 255 233 (dk_at dksX0_takeBest_2 9 rfl rfl)
theorem dX0_takeBest_58 : decode cX0_takeBest 58 = .ok (.aload_n 0, 1) := dk_42 (dk_at dksX0_takeBest_2 12 rfl rfl)
theorem dX0_takeBest_59 : decode cX0_takeBest 59 = .ok (.iload_n 1, 1) := dk_27 (dk_at dksX0_takeBest_2 13 rfl rfl)
theorem dX0_takeBest_60 : decode cX0_takeBest 60 = .ok (.invokevirtual 277, 3) := dk_182 1 21 (dk_at dksX0_takeBest_2 14 rfl rfl)
theorem dX0_takeBest_63 : decode cX0_takeBest 63 = .ok (.aload_n 0, 1) := dk_42 (dk_at dksX0_takeBest_2 17 rfl rfl)
theorem dX0_takeBest_64 : decode cX0_takeBest 64 = .ok (.getfield 379, 3) := dk_180 1 123 (dk_at dksX0_takeBest_2 18 rfl rfl)
theorem dX0_takeBest_67 : decode cX0_takeBest 67 = .ok (.ireturn, 1) := dk_172 (dk_at dksX0_takeBest_2 21 rfl rfl)
abbrev cX0_letter : ByteArray := prog_1_method_90_code
def yX0_letter : MethodName := ⟨RX0, "letter", "(II)I"⟩
def dkwX0_letter_4 : List UInt8 := [172]
abbrev dktX0_letter_4 : List UInt8 := dkwX0_letter_4 ++ []
def dkwX0_letter_3 : List UInt8 := [28, 3, 45, 182, 1, 146, 4, 100, 184, 0, 72, 153, 0, 11, 45, 28, 182, 1, 147, 167, 0, 5, 16, 254]
abbrev dktX0_letter_3 : List UInt8 := dkwX0_letter_3 ++ dktX0_letter_4
def dkwX0_letter_2 : List UInt8 := [51, 184, 1, 138, 182, 1, 142, 87, 132, 4, 1, 167, 255, 223, 28, 2, 160, 0, 8, 45, 182, 1, 146, 172]
abbrev dktX0_letter_2 : List UInt8 := dkwX0_letter_2 ++ dktX0_letter_3
def dkwX0_letter_1 : List UInt8 := [54, 4, 21, 4, 42, 180, 0, 202, 162, 0, 30, 45, 42, 21, 4, 182, 0, 211, 42, 180, 0, 27, 21, 4]
abbrev dktX0_letter_1 : List UInt8 := dkwX0_letter_1 ++ dktX0_letter_2
def dkwX0_letter_0 : List UInt8 := [42, 27, 182, 1, 14, 154, 0, 5, 2, 172, 42, 27, 182, 1, 0, 187, 0, 46, 89, 183, 0, 48, 78, 3]
abbrev dktX0_letter_0 : List UInt8 := dkwX0_letter_0 ++ dktX0_letter_1
theorem dksX0_letter_0 : cX0_letter.data.toList.drop 0 = dktX0_letter_0 := by decide +kernel
theorem dksX0_letter_1 : cX0_letter.data.toList.drop 24 = dktX0_letter_1 := dk_seg dksX0_letter_0 24 rfl rfl
theorem dksX0_letter_2 : cX0_letter.data.toList.drop 48 = dktX0_letter_2 := dk_seg dksX0_letter_1 24 rfl rfl
theorem dksX0_letter_3 : cX0_letter.data.toList.drop 72 = dktX0_letter_3 := dk_seg dksX0_letter_2 24 rfl rfl
theorem dksX0_letter_4 : cX0_letter.data.toList.drop 96 = dktX0_letter_4 := dk_seg dksX0_letter_3 24 rfl rfl
theorem dX0_letter_0 : decode cX0_letter 0 = .ok (.aload_n 0, 1) := dk_42 (dk_at dksX0_letter_0 0 rfl rfl)
theorem dX0_letter_1 : decode cX0_letter 1 = .ok (.iload_n 1, 1) := dk_27 (dk_at dksX0_letter_0 1 rfl rfl)
theorem dX0_letter_2 : decode cX0_letter 2 = .ok (.invokevirtual 270, 3) := dk_182 1 14 (dk_at dksX0_letter_0 2 rfl rfl)
theorem dX0_letter_5 : decode cX0_letter 5 = .ok (.ifCond .ne 5, 3) := dk_154 0 5 (dk_at dksX0_letter_0 5 rfl rfl)
theorem dX0_letter_8 : decode cX0_letter 8 = .ok (.iconst (-1), 1) := dk_2 (dk_at dksX0_letter_0 8 rfl rfl)
theorem dX0_letter_9 : decode cX0_letter 9 = .ok (.ireturn, 1) := dk_172 (dk_at dksX0_letter_0 9 rfl rfl)
theorem dX0_letter_10 : decode cX0_letter 10 = .ok (.aload_n 0, 1) := dk_42 (dk_at dksX0_letter_0 10 rfl rfl)
theorem dX0_letter_11 : decode cX0_letter 11 = .ok (.iload_n 1, 1) := dk_27 (dk_at dksX0_letter_0 11 rfl rfl)
theorem dX0_letter_12 : decode cX0_letter 12 = .ok (.invokevirtual 256, 3) := dk_182 1 0 (dk_at dksX0_letter_0 12 rfl rfl)
theorem dX0_letter_15 : decode cX0_letter 15 = .ok (.new 46, 3) := dk_187 0 46 (dk_at dksX0_letter_0 15 rfl rfl)
theorem dX0_letter_18 : decode cX0_letter 18 = .ok (.dup, 1) := dk_89 (dk_at dksX0_letter_0 18 rfl rfl)
theorem dX0_letter_19 : decode cX0_letter 19 = .ok (.invokespecial 48, 3) := dk_183 0 48 (dk_at dksX0_letter_0 19 rfl rfl)
theorem dX0_letter_22 : decode cX0_letter 22 = .ok (.astore_n 3, 1) := dk_78 (dk_at dksX0_letter_0 22 rfl rfl)
theorem dX0_letter_23 : decode cX0_letter 23 = .ok (.iconst 0, 1) := dk_3 (dk_at dksX0_letter_0 23 rfl rfl)
theorem dX0_letter_24 : decode cX0_letter 24 = .ok (.istore 4, 2) := dk_54 4 (dk_at dksX0_letter_1 0 rfl rfl)
theorem dX0_letter_26 : decode cX0_letter 26 = .ok (.iload 4, 2) := dk_21 4 (dk_at dksX0_letter_1 2 rfl rfl)
theorem dX0_letter_28 : decode cX0_letter 28 = .ok (.aload_n 0, 1) := dk_42 (dk_at dksX0_letter_1 4 rfl rfl)
theorem dX0_letter_29 : decode cX0_letter 29 = .ok (.getfield 202, 3) := dk_180 0 202 (dk_at dksX0_letter_1 5 rfl rfl)
theorem dX0_letter_32 : decode cX0_letter 32 = .ok (.if_icmp .ge 30, 3) := dk_162 0 30 (dk_at dksX0_letter_1 8 rfl rfl)
theorem dX0_letter_35 : decode cX0_letter 35 = .ok (.aload_n 3, 1) := dk_45 (dk_at dksX0_letter_1 11 rfl rfl)
theorem dX0_letter_36 : decode cX0_letter 36 = .ok (.aload_n 0, 1) := dk_42 (dk_at dksX0_letter_1 12 rfl rfl)
theorem dX0_letter_37 : decode cX0_letter 37 = .ok (.iload 4, 2) := dk_21 4 (dk_at dksX0_letter_1 13 rfl rfl)
theorem dX0_letter_39 : decode cX0_letter 39 = .ok (.invokevirtual 211, 3) := dk_182 0 211 (dk_at dksX0_letter_1 15 rfl rfl)
theorem dX0_letter_42 : decode cX0_letter 42 = .ok (.aload_n 0, 1) := dk_42 (dk_at dksX0_letter_1 18 rfl rfl)
theorem dX0_letter_43 : decode cX0_letter 43 = .ok (.getfield 27, 3) := dk_180 0 27 (dk_at dksX0_letter_1 19 rfl rfl)
theorem dX0_letter_46 : decode cX0_letter 46 = .ok (.iload 4, 2) := dk_21 4 (dk_at dksX0_letter_1 22 rfl rfl)
theorem dX0_letter_48 : decode cX0_letter 48 = .ok (.baload, 1) := dk_51 (dk_at dksX0_letter_2 0 rfl rfl)
theorem dX0_letter_49 : decode cX0_letter 49 = .ok (.invokestatic 394, 3) := dk_184 1 138 (dk_at dksX0_letter_2 1 rfl rfl)
theorem dX0_letter_52 : decode cX0_letter 52 = .ok (.invokevirtual 398, 3) := dk_182 1 142 (dk_at dksX0_letter_2 4 rfl rfl)
theorem dX0_letter_55 : decode cX0_letter 55 = .ok (.pop, 1) := dk_87 (dk_at dksX0_letter_2 7 rfl rfl)
theorem dX0_letter_56 : decode cX0_letter 56 = .ok (.iinc 4 1, 3) := dk_132 4 1 (dk_at dksX0_letter_2 8 rfl rfl)
theorem dX0_letter_59 : decode cX0_letter 59 = .ok (.goto (-33), 3) := dk_167 255 223 (dk_at dksX0_letter_2 11 rfl rfl)
theorem dX0_letter_62 : decode cX0_letter 62 = .ok (.iload_n 2, 1) := dk_28 (dk_at dksX0_letter_2 14 rfl rfl)
theorem dX0_letter_63 : decode cX0_letter 63 = .ok (.iconst (-1), 1) := dk_2 (dk_at dksX0_letter_2 15 rfl rfl)
theorem dX0_letter_64 : decode cX0_letter 64 = .ok (.if_icmp .ne 8, 3) := dk_160 0 8 (dk_at dksX0_letter_2 16 rfl rfl)
theorem dX0_letter_67 : decode cX0_letter 67 = .ok (.aload_n 3, 1) := dk_45 (dk_at dksX0_letter_2 19 rfl rfl)
theorem dX0_letter_68 : decode cX0_letter 68 = .ok (.invokevirtual 402, 3) := dk_182 1 146 (dk_at dksX0_letter_2 20 rfl rfl)
theorem dX0_letter_71 : decode cX0_letter 71 = .ok (.ireturn, 1) := dk_172 (dk_at dksX0_letter_2 23 rfl rfl)
theorem dX0_letter_72 : decode cX0_letter 72 = .ok (.iload_n 2, 1) := dk_28 (dk_at dksX0_letter_3 0 rfl rfl)
theorem dX0_letter_73 : decode cX0_letter 73 = .ok (.iconst 0, 1) := dk_3 (dk_at dksX0_letter_3 1 rfl rfl)
theorem dX0_letter_74 : decode cX0_letter 74 = .ok (.aload_n 3, 1) := dk_45 (dk_at dksX0_letter_3 2 rfl rfl)
theorem dX0_letter_75 : decode cX0_letter 75 = .ok (.invokevirtual 402, 3) := dk_182 1 146 (dk_at dksX0_letter_3 3 rfl rfl)
theorem dX0_letter_78 : decode cX0_letter 78 = .ok (.iconst 1, 1) := dk_4 (dk_at dksX0_letter_3 6 rfl rfl)
theorem dX0_letter_79 : decode cX0_letter 79 = .ok (.isub, 1) := dk_100 (dk_at dksX0_letter_3 7 rfl rfl)
theorem dX0_letter_80 : decode cX0_letter 80 = .ok (.invokestatic 72, 3) := dk_184 0 72 (dk_at dksX0_letter_3 8 rfl rfl)
theorem dX0_letter_83 : decode cX0_letter 83 = .ok (.ifCond .eq 11, 3) := dk_153 0 11 (dk_at dksX0_letter_3 11 rfl rfl)
theorem dX0_letter_86 : decode cX0_letter 86 = .ok (.aload_n 3, 1) := dk_45 (dk_at dksX0_letter_3 14 rfl rfl)
theorem dX0_letter_87 : decode cX0_letter 87 = .ok (.iload_n 2, 1) := dk_28 (dk_at dksX0_letter_3 15 rfl rfl)
theorem dX0_letter_88 : decode cX0_letter 88 = .ok (.invokevirtual 403, 3) := dk_182 1 147 (dk_at dksX0_letter_3 16 rfl rfl)
theorem dX0_letter_91 : decode cX0_letter 91 = .ok (.goto 5, 3) := dk_167 0 5 (dk_at dksX0_letter_3 19 rfl rfl)
theorem dX0_letter_94 : decode cX0_letter 94 = .ok (.bipush (-2), 2) := dk_16 254 (dk_at dksX0_letter_3 22 rfl rfl)
theorem dX0_letter_96 : decode cX0_letter 96 = .ok (.ireturn, 1) := dk_172 (dk_at dksX0_letter_4 0 rfl rfl)
abbrev cX0_textOf : ByteArray := prog_1_method_89_code
def yX0_textOf : MethodName := ⟨RX0, "textOf", "(LCrewPairer$Timed;Z)Ljava/lang/CharSequence;"⟩
def dkwX0_textOf_0 : List UInt8 := [42, 27, 185, 1, 132, 2, 0, 176]
abbrev dktX0_textOf_0 : List UInt8 := dkwX0_textOf_0 ++ []
theorem dksX0_textOf_0 : cX0_textOf.data.toList.drop 0 = dktX0_textOf_0 := by decide +kernel
theorem dX0_textOf_0 : decode cX0_textOf 0 = .ok (.aload_n 0, 1) := dk_42 (dk_at dksX0_textOf_0 0 rfl rfl)
theorem dX0_textOf_1 : decode cX0_textOf 1 = .ok (.iload_n 1, 1) := dk_27 (dk_at dksX0_textOf_0 1 rfl rfl)
theorem dX0_textOf_2 : decode cX0_textOf 2 = .ok (.invokeinterface 388 2, 5) := by decide +kernel
theorem dX0_textOf_7 : decode cX0_textOf 7 = .ok (.areturn, 1) := dk_176 (dk_at dksX0_textOf_0 7 rfl rfl)
abbrev cX0_feed : ByteArray := prog_1_method_91_code
def yX0_feed : MethodName := ⟨RX0, "feed", "(I)I"⟩
def dkwX0_feed_1 : List UInt8 := [160, 0, 6, 16, 253, 172, 42, 180, 0, 49, 27, 146, 182, 1, 151, 87, 42, 180, 0, 49, 182, 1, 146, 172]
abbrev dktX0_feed_1 : List UInt8 := dkwX0_feed_1 ++ []
def dkwX0_feed_0 : List UInt8 := [27, 16, 32, 16, 126, 184, 0, 72, 154, 0, 5, 2, 172, 42, 180, 0, 49, 182, 1, 146, 16, 60]
abbrev dktX0_feed_0 : List UInt8 := dkwX0_feed_0 ++ dktX0_feed_1
theorem dksX0_feed_0 : cX0_feed.data.toList.drop 0 = dktX0_feed_0 := by decide +kernel
theorem dksX0_feed_1 : cX0_feed.data.toList.drop 22 = dktX0_feed_1 := dk_seg dksX0_feed_0 22 rfl rfl
theorem dX0_feed_0 : decode cX0_feed 0 = .ok (.iload_n 1, 1) := dk_27 (dk_at dksX0_feed_0 0 rfl rfl)
theorem dX0_feed_1 : decode cX0_feed 1 = .ok (.bipush 32, 2) := dk_16 32 (dk_at dksX0_feed_0 1 rfl rfl)
theorem dX0_feed_3 : decode cX0_feed 3 = .ok (.bipush 126, 2) := dk_16 126 (dk_at dksX0_feed_0 3 rfl rfl)
theorem dX0_feed_5 : decode cX0_feed 5 = .ok (.invokestatic 72, 3) := dk_184 0 72 (dk_at dksX0_feed_0 5 rfl rfl)
theorem dX0_feed_8 : decode cX0_feed 8 = .ok (.ifCond .ne 5, 3) := dk_154 0 5 (dk_at dksX0_feed_0 8 rfl rfl)
theorem dX0_feed_11 : decode cX0_feed 11 = .ok (.iconst (-1), 1) := dk_2 (dk_at dksX0_feed_0 11 rfl rfl)
theorem dX0_feed_12 : decode cX0_feed 12 = .ok (.ireturn, 1) := dk_172 (dk_at dksX0_feed_0 12 rfl rfl)
theorem dX0_feed_13 : decode cX0_feed 13 = .ok (.aload_n 0, 1) := dk_42 (dk_at dksX0_feed_0 13 rfl rfl)
theorem dX0_feed_14 : decode cX0_feed 14 = .ok (.getfield 49, 3) := dk_180 0 49 (dk_at dksX0_feed_0 14 rfl rfl)
theorem dX0_feed_17 : decode cX0_feed 17 = .ok (.invokevirtual 402, 3) := dk_182 1 146 (dk_at dksX0_feed_0 17 rfl rfl)
theorem dX0_feed_20 : decode cX0_feed 20 = .ok (.bipush 60, 2) := dk_16 60 (dk_at dksX0_feed_0 20 rfl rfl)
theorem dX0_feed_22 : decode cX0_feed 22 = .ok (.if_icmp .ne 6, 3) := dk_160 0 6 (dk_at dksX0_feed_1 0 rfl rfl)
theorem dX0_feed_25 : decode cX0_feed 25 = .ok (.bipush (-3), 2) := dk_16 253 (dk_at dksX0_feed_1 3 rfl rfl)
theorem dX0_feed_27 : decode cX0_feed 27 = .ok (.ireturn, 1) := dk_172 (dk_at dksX0_feed_1 5 rfl rfl)
theorem dX0_feed_28 : decode cX0_feed 28 = .ok (.aload_n 0, 1) := dk_42 (dk_at dksX0_feed_1 6 rfl rfl)
theorem dX0_feed_29 : decode cX0_feed 29 = .ok (.getfield 49, 3) := dk_180 0 49 (dk_at dksX0_feed_1 7 rfl rfl)
theorem dX0_feed_32 : decode cX0_feed 32 = .ok (.iload_n 1, 1) := dk_27 (dk_at dksX0_feed_1 10 rfl rfl)
theorem dX0_feed_33 : decode cX0_feed 33 = .ok (.i2c, 1) := dk_146 (dk_at dksX0_feed_1 11 rfl rfl)
theorem dX0_feed_34 : decode cX0_feed 34 = .ok (.invokevirtual 407, 3) := dk_182 1 151 (dk_at dksX0_feed_1 12 rfl rfl)
theorem dX0_feed_37 : decode cX0_feed 37 = .ok (.pop, 1) := dk_87 (dk_at dksX0_feed_1 15 rfl rfl)
theorem dX0_feed_38 : decode cX0_feed 38 = .ok (.aload_n 0, 1) := dk_42 (dk_at dksX0_feed_1 16 rfl rfl)
theorem dX0_feed_39 : decode cX0_feed 39 = .ok (.getfield 49, 3) := dk_180 0 49 (dk_at dksX0_feed_1 17 rfl rfl)
theorem dX0_feed_42 : decode cX0_feed 42 = .ok (.invokevirtual 402, 3) := dk_182 1 146 (dk_at dksX0_feed_1 20 rfl rfl)
theorem dX0_feed_45 : decode cX0_feed 45 = .ok (.ireturn, 1) := dk_172 (dk_at dksX0_feed_1 23 rfl rfl)
abbrev cX0_execute : ByteArray := prog_1_method_100_code
def yX0_execute : MethodName := ⟨RX0, "execute", "()I"⟩
def dkwX0_execute_3 : List UInt8 := [181, 0, 97, 21, 4, 172, 58, 5, 42, 3, 181, 0, 97, 25, 5, 191]
abbrev dktX0_execute_3 : List UInt8 := dkwX0_execute_3 ++ []
def dkwX0_execute_2 : List UInt8 := [42, 3, 181, 0, 97, 21, 4, 172, 78, 42, 43, 181, 0, 10, 45, 180, 1, 250, 54, 4, 42, 3]
abbrev dktX0_execute_2 : List UInt8 := dkwX0_execute_2 ++ dktX0_execute_3
def dkwX0_execute_1 : List UInt8 := [42, 4, 181, 0, 97, 42, 44, 182, 1, 244, 62, 42, 29, 182, 1, 247, 42, 43, 182, 0, 105, 29, 54, 4]
abbrev dktX0_execute_1 : List UInt8 := dkwX0_execute_1 ++ dktX0_execute_2
def dkwX0_execute_0 : List UInt8 := [42, 180, 0, 10, 182, 0, 101, 76, 42, 180, 0, 49, 182, 1, 197, 77, 42, 180, 0, 49, 3, 182, 1, 241]
abbrev dktX0_execute_0 : List UInt8 := dkwX0_execute_0 ++ dktX0_execute_1
theorem dksX0_execute_0 : cX0_execute.data.toList.drop 0 = dktX0_execute_0 := by decide +kernel
theorem dksX0_execute_1 : cX0_execute.data.toList.drop 24 = dktX0_execute_1 := dk_seg dksX0_execute_0 24 rfl rfl
theorem dksX0_execute_2 : cX0_execute.data.toList.drop 48 = dktX0_execute_2 := dk_seg dksX0_execute_1 24 rfl rfl
theorem dksX0_execute_3 : cX0_execute.data.toList.drop 70 = dktX0_execute_3 := dk_seg dksX0_execute_2 22 rfl rfl
theorem dX0_execute_0 : decode cX0_execute 0 = .ok (.aload_n 0, 1) := dk_42 (dk_at dksX0_execute_0 0 rfl rfl)
theorem dX0_execute_1 : decode cX0_execute 1 = .ok (.getfield 10, 3) := dk_180 0 10 (dk_at dksX0_execute_0 1 rfl rfl)
theorem dX0_execute_4 : decode cX0_execute 4 = .ok (.invokevirtual 101, 3) := dk_182 0 101 (dk_at dksX0_execute_0 4 rfl rfl)
theorem dX0_execute_7 : decode cX0_execute 7 = .ok (.astore_n 1, 1) := dk_76 (dk_at dksX0_execute_0 7 rfl rfl)
theorem dX0_execute_8 : decode cX0_execute 8 = .ok (.aload_n 0, 1) := dk_42 (dk_at dksX0_execute_0 8 rfl rfl)
theorem dX0_execute_9 : decode cX0_execute 9 = .ok (.getfield 49, 3) := dk_180 0 49 (dk_at dksX0_execute_0 9 rfl rfl)
theorem dX0_execute_12 : decode cX0_execute 12 = .ok (.invokevirtual 453, 3) := dk_182 1 197 (dk_at dksX0_execute_0 12 rfl rfl)
theorem dX0_execute_15 : decode cX0_execute 15 = .ok (.astore_n 2, 1) := dk_77 (dk_at dksX0_execute_0 15 rfl rfl)
theorem dX0_execute_16 : decode cX0_execute 16 = .ok (.aload_n 0, 1) := dk_42 (dk_at dksX0_execute_0 16 rfl rfl)
theorem dX0_execute_17 : decode cX0_execute 17 = .ok (.getfield 49, 3) := dk_180 0 49 (dk_at dksX0_execute_0 17 rfl rfl)
theorem dX0_execute_20 : decode cX0_execute 20 = .ok (.iconst 0, 1) := dk_3 (dk_at dksX0_execute_0 20 rfl rfl)
theorem dX0_execute_21 : decode cX0_execute 21 = .ok (.invokevirtual 497, 3) := dk_182 1 241 (dk_at dksX0_execute_0 21 rfl rfl)
theorem dX0_execute_24 : decode cX0_execute 24 = .ok (.aload_n 0, 1) := dk_42 (dk_at dksX0_execute_1 0 rfl rfl)
theorem dX0_execute_25 : decode cX0_execute 25 = .ok (.iconst 1, 1) := dk_4 (dk_at dksX0_execute_1 1 rfl rfl)
theorem dX0_execute_26 : decode cX0_execute 26 = .ok (.putfield 97, 3) := dk_181 0 97 (dk_at dksX0_execute_1 2 rfl rfl)
theorem dX0_execute_29 : decode cX0_execute 29 = .ok (.aload_n 0, 1) := dk_42 (dk_at dksX0_execute_1 5 rfl rfl)
theorem dX0_execute_30 : decode cX0_execute 30 = .ok (.aload_n 2, 1) := dk_44 (dk_at dksX0_execute_1 6 rfl rfl)
theorem dX0_execute_31 : decode cX0_execute 31 = .ok (.invokevirtual 500, 3) := dk_182 1 244 (dk_at dksX0_execute_1 7 rfl rfl)
theorem dX0_execute_34 : decode cX0_execute 34 = .ok (.istore_n 3, 1) := dk_62 (dk_at dksX0_execute_1 10 rfl rfl)
theorem dX0_execute_35 : decode cX0_execute 35 = .ok (.aload_n 0, 1) := dk_42 (dk_at dksX0_execute_1 11 rfl rfl)
theorem dX0_execute_36 : decode cX0_execute 36 = .ok (.iload_n 3, 1) := dk_29 (dk_at dksX0_execute_1 12 rfl rfl)
theorem dX0_execute_37 : decode cX0_execute 37 = .ok (.invokevirtual 503, 3) := dk_182 1 247 (dk_at dksX0_execute_1 13 rfl rfl)
theorem dX0_execute_40 : decode cX0_execute 40 = .ok (.aload_n 0, 1) := dk_42 (dk_at dksX0_execute_1 16 rfl rfl)
theorem dX0_execute_41 : decode cX0_execute 41 = .ok (.aload_n 1, 1) := dk_43 (dk_at dksX0_execute_1 17 rfl rfl)
theorem dX0_execute_42 : decode cX0_execute 42 = .ok (.invokevirtual 105, 3) := dk_182 0 105 (dk_at dksX0_execute_1 18 rfl rfl)
theorem dX0_execute_45 : decode cX0_execute 45 = .ok (.iload_n 3, 1) := dk_29 (dk_at dksX0_execute_1 21 rfl rfl)
theorem dX0_execute_46 : decode cX0_execute 46 = .ok (.istore 4, 2) := dk_54 4 (dk_at dksX0_execute_1 22 rfl rfl)
theorem dX0_execute_48 : decode cX0_execute 48 = .ok (.aload_n 0, 1) := dk_42 (dk_at dksX0_execute_2 0 rfl rfl)
theorem dX0_execute_49 : decode cX0_execute 49 = .ok (.iconst 0, 1) := dk_3 (dk_at dksX0_execute_2 1 rfl rfl)
theorem dX0_execute_50 : decode cX0_execute 50 = .ok (.putfield 97, 3) := dk_181 0 97 (dk_at dksX0_execute_2 2 rfl rfl)
theorem dX0_execute_53 : decode cX0_execute 53 = .ok (.iload 4, 2) := dk_21 4 (dk_at dksX0_execute_2 5 rfl rfl)
theorem dX0_execute_55 : decode cX0_execute 55 = .ok (.ireturn, 1) := dk_172 (dk_at dksX0_execute_2 7 rfl rfl)
theorem dX0_execute_56 : decode cX0_execute 56 = .ok (.astore_n 3, 1) := dk_78 (dk_at dksX0_execute_2 8 rfl rfl)
theorem dX0_execute_57 : decode cX0_execute 57 = .ok (.aload_n 0, 1) := dk_42 (dk_at dksX0_execute_2 9 rfl rfl)
theorem dX0_execute_58 : decode cX0_execute 58 = .ok (.aload_n 1, 1) := dk_43 (dk_at dksX0_execute_2 10 rfl rfl)
theorem dX0_execute_59 : decode cX0_execute 59 = .ok (.putfield 10, 3) := dk_181 0 10 (dk_at dksX0_execute_2 11 rfl rfl)
theorem dX0_execute_62 : decode cX0_execute 62 = .ok (.aload_n 3, 1) := dk_45 (dk_at dksX0_execute_2 14 rfl rfl)
theorem dX0_execute_63 : decode cX0_execute 63 = .ok (.getfield 506, 3) := dk_180 1 250 (dk_at dksX0_execute_2 15 rfl rfl)
theorem dX0_execute_66 : decode cX0_execute 66 = .ok (.istore 4, 2) := dk_54 4 (dk_at dksX0_execute_2 18 rfl rfl)
theorem dX0_execute_68 : decode cX0_execute 68 = .ok (.aload_n 0, 1) := dk_42 (dk_at dksX0_execute_2 20 rfl rfl)
theorem dX0_execute_69 : decode cX0_execute 69 = .ok (.iconst 0, 1) := dk_3 (dk_at dksX0_execute_2 21 rfl rfl)
theorem dX0_execute_70 : decode cX0_execute 70 = .ok (.putfield 97, 3) := dk_181 0 97 (dk_at dksX0_execute_3 0 rfl rfl)
theorem dX0_execute_73 : decode cX0_execute 73 = .ok (.iload 4, 2) := dk_21 4 (dk_at dksX0_execute_3 3 rfl rfl)
theorem dX0_execute_75 : decode cX0_execute 75 = .ok (.ireturn, 1) := dk_172 (dk_at dksX0_execute_3 5 rfl rfl)
theorem dX0_execute_76 : decode cX0_execute 76 = .ok (.astore 5, 2) := dk_58 5 (dk_at dksX0_execute_3 6 rfl rfl)
theorem dX0_execute_78 : decode cX0_execute 78 = .ok (.aload_n 0, 1) := dk_42 (dk_at dksX0_execute_3 8 rfl rfl)
theorem dX0_execute_79 : decode cX0_execute 79 = .ok (.iconst 0, 1) := dk_3 (dk_at dksX0_execute_3 9 rfl rfl)
theorem dX0_execute_80 : decode cX0_execute 80 = .ok (.putfield 97, 3) := dk_181 0 97 (dk_at dksX0_execute_3 10 rfl rfl)
theorem dX0_execute_83 : decode cX0_execute 83 = .ok (.aload 5, 2) := dk_25 5 (dk_at dksX0_execute_3 13 rfl rfl)
theorem dX0_execute_85 : decode cX0_execute 85 = .ok (.athrow, 1) := dk_191 (dk_at dksX0_execute_3 15 rfl rfl)
abbrev cX0_readCommands : ByteArray := prog_1_method_97_code
def yX0_readCommands : MethodName := ⟨RX0, "readCommands", "(Ljava/lang/CharSequence;)I"⟩
def dkwX0_readCommands_2 : List UInt8 := [159, 0, 11, 42, 180, 1, 186, 184, 1, 193, 191, 42, 89, 180, 1, 186, 4, 96, 181, 1, 186, 167, 255, 199]
abbrev dktX0_readCommands_2 : List UInt8 := dkwX0_readCommands_2 ++ []
def dkwX0_readCommands_1 : List UInt8 := [185, 1, 179, 1, 0, 160, 0, 5, 28, 172, 43, 42, 180, 1, 186, 185, 1, 182, 2, 0, 16, 59]
abbrev dktX0_readCommands_1 : List UInt8 := dkwX0_readCommands_1 ++ dktX0_readCommands_2
def dkwX0_readCommands_0 : List UInt8 := [42, 3, 181, 1, 186, 3, 61, 42, 43, 28, 182, 1, 209, 132, 2, 1, 42, 180, 1, 186, 43]
abbrev dktX0_readCommands_0 : List UInt8 := dkwX0_readCommands_0 ++ dktX0_readCommands_1
theorem dksX0_readCommands_0 : cX0_readCommands.data.toList.drop 0 = dktX0_readCommands_0 := by decide +kernel
theorem dksX0_readCommands_1 : cX0_readCommands.data.toList.drop 21 = dktX0_readCommands_1 := dk_seg dksX0_readCommands_0 21 rfl rfl
theorem dksX0_readCommands_2 : cX0_readCommands.data.toList.drop 43 = dktX0_readCommands_2 := dk_seg dksX0_readCommands_1 22 rfl rfl
theorem dX0_readCommands_0 : decode cX0_readCommands 0 = .ok (.aload_n 0, 1) := dk_42 (dk_at dksX0_readCommands_0 0 rfl rfl)
theorem dX0_readCommands_1 : decode cX0_readCommands 1 = .ok (.iconst 0, 1) := dk_3 (dk_at dksX0_readCommands_0 1 rfl rfl)
theorem dX0_readCommands_2 : decode cX0_readCommands 2 = .ok (.putfield 442, 3) := dk_181 1 186 (dk_at dksX0_readCommands_0 2 rfl rfl)
theorem dX0_readCommands_5 : decode cX0_readCommands 5 = .ok (.iconst 0, 1) := dk_3 (dk_at dksX0_readCommands_0 5 rfl rfl)
theorem dX0_readCommands_6 : decode cX0_readCommands 6 = .ok (.istore_n 2, 1) := dk_61 (dk_at dksX0_readCommands_0 6 rfl rfl)
theorem dX0_readCommands_7 : decode cX0_readCommands 7 = .ok (.aload_n 0, 1) := dk_42 (dk_at dksX0_readCommands_0 7 rfl rfl)
theorem dX0_readCommands_8 : decode cX0_readCommands 8 = .ok (.aload_n 1, 1) := dk_43 (dk_at dksX0_readCommands_0 8 rfl rfl)
theorem dX0_readCommands_9 : decode cX0_readCommands 9 = .ok (.iload_n 2, 1) := dk_28 (dk_at dksX0_readCommands_0 9 rfl rfl)
theorem dX0_readCommands_10 : decode cX0_readCommands 10 = .ok (.invokevirtual 465, 3) := dk_182 1 209 (dk_at dksX0_readCommands_0 10 rfl rfl)
theorem dX0_readCommands_13 : decode cX0_readCommands 13 = .ok (.iinc 2 1, 3) := dk_132 2 1 (dk_at dksX0_readCommands_0 13 rfl rfl)
theorem dX0_readCommands_16 : decode cX0_readCommands 16 = .ok (.aload_n 0, 1) := dk_42 (dk_at dksX0_readCommands_0 16 rfl rfl)
theorem dX0_readCommands_17 : decode cX0_readCommands 17 = .ok (.getfield 442, 3) := dk_180 1 186 (dk_at dksX0_readCommands_0 17 rfl rfl)
theorem dX0_readCommands_20 : decode cX0_readCommands 20 = .ok (.aload_n 1, 1) := dk_43 (dk_at dksX0_readCommands_0 20 rfl rfl)
theorem dX0_readCommands_21 : decode cX0_readCommands 21 = .ok (.invokeinterface 435 1, 5) := by decide +kernel
theorem dX0_readCommands_26 : decode cX0_readCommands 26 = .ok (.if_icmp .ne 5, 3) := dk_160 0 5 (dk_at dksX0_readCommands_1 5 rfl rfl)
theorem dX0_readCommands_29 : decode cX0_readCommands 29 = .ok (.iload_n 2, 1) := dk_28 (dk_at dksX0_readCommands_1 8 rfl rfl)
theorem dX0_readCommands_30 : decode cX0_readCommands 30 = .ok (.ireturn, 1) := dk_172 (dk_at dksX0_readCommands_1 9 rfl rfl)
theorem dX0_readCommands_31 : decode cX0_readCommands 31 = .ok (.aload_n 1, 1) := dk_43 (dk_at dksX0_readCommands_1 10 rfl rfl)
theorem dX0_readCommands_32 : decode cX0_readCommands 32 = .ok (.aload_n 0, 1) := dk_42 (dk_at dksX0_readCommands_1 11 rfl rfl)
theorem dX0_readCommands_33 : decode cX0_readCommands 33 = .ok (.getfield 442, 3) := dk_180 1 186 (dk_at dksX0_readCommands_1 12 rfl rfl)
theorem dX0_readCommands_36 : decode cX0_readCommands 36 = .ok (.invokeinterface 438 2, 5) := by decide +kernel
theorem dX0_readCommands_41 : decode cX0_readCommands 41 = .ok (.bipush 59, 2) := dk_16 59 (dk_at dksX0_readCommands_1 20 rfl rfl)
theorem dX0_readCommands_43 : decode cX0_readCommands 43 = .ok (.if_icmp .eq 11, 3) := dk_159 0 11 (dk_at dksX0_readCommands_2 0 rfl rfl)
theorem dX0_readCommands_46 : decode cX0_readCommands 46 = .ok (.aload_n 0, 1) := dk_42 (dk_at dksX0_readCommands_2 3 rfl rfl)
theorem dX0_readCommands_47 : decode cX0_readCommands 47 = .ok (.getfield 442, 3) := dk_180 1 186 (dk_at dksX0_readCommands_2 4 rfl rfl)
theorem dX0_readCommands_50 : decode cX0_readCommands 50 = .ok (.invokestatic 449, 3) := dk_184 1 193 (dk_at dksX0_readCommands_2 7 rfl rfl)
theorem dX0_readCommands_53 : decode cX0_readCommands 53 = .ok (.athrow, 1) := dk_191 (dk_at dksX0_readCommands_2 10 rfl rfl)
theorem dX0_readCommands_54 : decode cX0_readCommands 54 = .ok (.aload_n 0, 1) := dk_42 (dk_at dksX0_readCommands_2 11 rfl rfl)
theorem dX0_readCommands_55 : decode cX0_readCommands 55 = .ok (.dup, 1) := dk_89 (dk_at dksX0_readCommands_2 12 rfl rfl)
theorem dX0_readCommands_56 : decode cX0_readCommands 56 = .ok (.getfield 442, 3) := dk_180 1 186 (dk_at dksX0_readCommands_2 13 rfl rfl)
theorem dX0_readCommands_59 : decode cX0_readCommands 59 = .ok (.iconst 1, 1) := dk_4 (dk_at dksX0_readCommands_2 16 rfl rfl)
theorem dX0_readCommands_60 : decode cX0_readCommands 60 = .ok (.iadd, 1) := dk_96 (dk_at dksX0_readCommands_2 17 rfl rfl)
theorem dX0_readCommands_61 : decode cX0_readCommands 61 = .ok (.putfield 442, 3) := dk_181 1 186 (dk_at dksX0_readCommands_2 18 rfl rfl)
theorem dX0_readCommands_64 : decode cX0_readCommands 64 = .ok (.goto (-57), 3) := dk_167 255 199 (dk_at dksX0_readCommands_2 21 rfl rfl)
abbrev cX0_readCommand : ByteArray := prog_1_method_96_code
def yX0_readCommand : MethodName := ⟨RX0, "readCommand", "(Ljava/lang/CharSequence;I)V"⟩
def dkwX0_readCommand_5 : List UInt8 := [132, 6, 1, 167, 255, 230, 177]
abbrev dktX0_readCommand_5 : List UInt8 := dkwX0_readCommand_5 ++ []
def dkwX0_readCommand_4 : List UInt8 := [21, 6, 21, 5, 162, 0, 25, 42, 180, 0, 59, 7, 28, 104, 21, 6, 96, 42, 43, 182, 1, 205, 79]
abbrev dktX0_readCommand_4 : List UInt8 := dkwX0_readCommand_4 ++ dktX0_readCommand_5
def dkwX0_readCommand_3 : List UInt8 := [42, 180, 0, 55, 28, 50, 184, 1, 201, 54, 5, 21, 5, 156, 0, 8, 29, 184, 1, 193, 191, 3, 54, 6]
abbrev dktX0_readCommand_3 : List UInt8 := dkwX0_readCommand_3 ++ dktX0_readCommand_4
def dkwX0_readCommand_2 : List UInt8 := [42, 89, 180, 1, 186, 4, 96, 181, 1, 186, 167, 255, 212, 42, 180, 0, 55, 28, 25, 4, 182, 1, 197, 83]
abbrev dktX0_readCommand_2 : List UInt8 := dkwX0_readCommand_2 ++ dktX0_readCommand_3
def dkwX0_readCommand_1 : List UInt8 := [16, 122, 184, 0, 72, 153, 0, 32, 25, 4, 43, 42, 180, 1, 186, 185, 1, 182, 2, 0, 182, 1, 151, 87]
abbrev dktX0_readCommand_1 : List UInt8 := dkwX0_readCommand_1 ++ dktX0_readCommand_2
def dkwX0_readCommand_0 : List UInt8 := [42, 180, 1, 186, 62, 187, 0, 46, 89, 183, 0, 48, 58, 4, 43, 42, 180, 1, 186, 184, 1, 189, 16, 97]
abbrev dktX0_readCommand_0 : List UInt8 := dkwX0_readCommand_0 ++ dktX0_readCommand_1
theorem dksX0_readCommand_0 : cX0_readCommand.data.toList.drop 0 = dktX0_readCommand_0 := by decide +kernel
theorem dksX0_readCommand_1 : cX0_readCommand.data.toList.drop 24 = dktX0_readCommand_1 := dk_seg dksX0_readCommand_0 24 rfl rfl
theorem dksX0_readCommand_2 : cX0_readCommand.data.toList.drop 48 = dktX0_readCommand_2 := dk_seg dksX0_readCommand_1 24 rfl rfl
theorem dksX0_readCommand_3 : cX0_readCommand.data.toList.drop 72 = dktX0_readCommand_3 := dk_seg dksX0_readCommand_2 24 rfl rfl
theorem dksX0_readCommand_4 : cX0_readCommand.data.toList.drop 96 = dktX0_readCommand_4 := dk_seg dksX0_readCommand_3 24 rfl rfl
theorem dksX0_readCommand_5 : cX0_readCommand.data.toList.drop 119 = dktX0_readCommand_5 := dk_seg dksX0_readCommand_4 23 rfl rfl
theorem dX0_readCommand_0 : decode cX0_readCommand 0 = .ok (.aload_n 0, 1) := dk_42 (dk_at dksX0_readCommand_0 0 rfl rfl)
theorem dX0_readCommand_1 : decode cX0_readCommand 1 = .ok (.getfield 442, 3) := dk_180 1 186 (dk_at dksX0_readCommand_0 1 rfl rfl)
theorem dX0_readCommand_4 : decode cX0_readCommand 4 = .ok (.istore_n 3, 1) := dk_62 (dk_at dksX0_readCommand_0 4 rfl rfl)
theorem dX0_readCommand_5 : decode cX0_readCommand 5 = .ok (.new 46, 3) := dk_187 0 46 (dk_at dksX0_readCommand_0 5 rfl rfl)
theorem dX0_readCommand_8 : decode cX0_readCommand 8 = .ok (.dup, 1) := dk_89 (dk_at dksX0_readCommand_0 8 rfl rfl)
theorem dX0_readCommand_9 : decode cX0_readCommand 9 = .ok (.invokespecial 48, 3) := dk_183 0 48 (dk_at dksX0_readCommand_0 9 rfl rfl)
theorem dX0_readCommand_12 : decode cX0_readCommand 12 = .ok (.astore 4, 2) := dk_58 4 (dk_at dksX0_readCommand_0 12 rfl rfl)
theorem dX0_readCommand_14 : decode cX0_readCommand 14 = .ok (.aload_n 1, 1) := dk_43 (dk_at dksX0_readCommand_0 14 rfl rfl)
theorem dX0_readCommand_15 : decode cX0_readCommand 15 = .ok (.aload_n 0, 1) := dk_42 (dk_at dksX0_readCommand_0 15 rfl rfl)
theorem dX0_readCommand_16 : decode cX0_readCommand 16 = .ok (.getfield 442, 3) := dk_180 1 186 (dk_at dksX0_readCommand_0 16 rfl rfl)
theorem dX0_readCommand_19 : decode cX0_readCommand 19 = .ok (.invokestatic 445, 3) := dk_184 1 189 (dk_at dksX0_readCommand_0 19 rfl rfl)
theorem dX0_readCommand_22 : decode cX0_readCommand 22 = .ok (.bipush 97, 2) := dk_16 97 (dk_at dksX0_readCommand_0 22 rfl rfl)
theorem dX0_readCommand_24 : decode cX0_readCommand 24 = .ok (.bipush 122, 2) := dk_16 122 (dk_at dksX0_readCommand_1 0 rfl rfl)
theorem dX0_readCommand_26 : decode cX0_readCommand 26 = .ok (.invokestatic 72, 3) := dk_184 0 72 (dk_at dksX0_readCommand_1 2 rfl rfl)
theorem dX0_readCommand_29 : decode cX0_readCommand 29 = .ok (.ifCond .eq 32, 3) := dk_153 0 32 (dk_at dksX0_readCommand_1 5 rfl rfl)
theorem dX0_readCommand_32 : decode cX0_readCommand 32 = .ok (.aload 4, 2) := dk_25 4 (dk_at dksX0_readCommand_1 8 rfl rfl)
theorem dX0_readCommand_34 : decode cX0_readCommand 34 = .ok (.aload_n 1, 1) := dk_43 (dk_at dksX0_readCommand_1 10 rfl rfl)
theorem dX0_readCommand_35 : decode cX0_readCommand 35 = .ok (.aload_n 0, 1) := dk_42 (dk_at dksX0_readCommand_1 11 rfl rfl)
theorem dX0_readCommand_36 : decode cX0_readCommand 36 = .ok (.getfield 442, 3) := dk_180 1 186 (dk_at dksX0_readCommand_1 12 rfl rfl)
theorem dX0_readCommand_39 : decode cX0_readCommand 39 = .ok (.invokeinterface 438 2, 5) := by decide +kernel
theorem dX0_readCommand_44 : decode cX0_readCommand 44 = .ok (.invokevirtual 407, 3) := dk_182 1 151 (dk_at dksX0_readCommand_1 20 rfl rfl)
theorem dX0_readCommand_47 : decode cX0_readCommand 47 = .ok (.pop, 1) := dk_87 (dk_at dksX0_readCommand_1 23 rfl rfl)
theorem dX0_readCommand_48 : decode cX0_readCommand 48 = .ok (.aload_n 0, 1) := dk_42 (dk_at dksX0_readCommand_2 0 rfl rfl)
theorem dX0_readCommand_49 : decode cX0_readCommand 49 = .ok (.dup, 1) := dk_89 (dk_at dksX0_readCommand_2 1 rfl rfl)
theorem dX0_readCommand_50 : decode cX0_readCommand 50 = .ok (.getfield 442, 3) := dk_180 1 186 (dk_at dksX0_readCommand_2 2 rfl rfl)
theorem dX0_readCommand_53 : decode cX0_readCommand 53 = .ok (.iconst 1, 1) := dk_4 (dk_at dksX0_readCommand_2 5 rfl rfl)
theorem dX0_readCommand_54 : decode cX0_readCommand 54 = .ok (.iadd, 1) := dk_96 (dk_at dksX0_readCommand_2 6 rfl rfl)
theorem dX0_readCommand_55 : decode cX0_readCommand 55 = .ok (.putfield 442, 3) := dk_181 1 186 (dk_at dksX0_readCommand_2 7 rfl rfl)
theorem dX0_readCommand_58 : decode cX0_readCommand 58 = .ok (.goto (-44), 3) := dk_167 255 212 (dk_at dksX0_readCommand_2 10 rfl rfl)
theorem dX0_readCommand_61 : decode cX0_readCommand 61 = .ok (.aload_n 0, 1) := dk_42 (dk_at dksX0_readCommand_2 13 rfl rfl)
theorem dX0_readCommand_62 : decode cX0_readCommand 62 = .ok (.getfield 55, 3) := dk_180 0 55 (dk_at dksX0_readCommand_2 14 rfl rfl)
theorem dX0_readCommand_65 : decode cX0_readCommand 65 = .ok (.iload_n 2, 1) := dk_28 (dk_at dksX0_readCommand_2 17 rfl rfl)
theorem dX0_readCommand_66 : decode cX0_readCommand 66 = .ok (.aload 4, 2) := dk_25 4 (dk_at dksX0_readCommand_2 18 rfl rfl)
theorem dX0_readCommand_68 : decode cX0_readCommand 68 = .ok (.invokevirtual 453, 3) := dk_182 1 197 (dk_at dksX0_readCommand_2 20 rfl rfl)
theorem dX0_readCommand_71 : decode cX0_readCommand 71 = .ok (.aastore, 1) := dk_83 (dk_at dksX0_readCommand_2 23 rfl rfl)
theorem dX0_readCommand_72 : decode cX0_readCommand 72 = .ok (.aload_n 0, 1) := dk_42 (dk_at dksX0_readCommand_3 0 rfl rfl)
theorem dX0_readCommand_73 : decode cX0_readCommand 73 = .ok (.getfield 55, 3) := dk_180 0 55 (dk_at dksX0_readCommand_3 1 rfl rfl)
theorem dX0_readCommand_76 : decode cX0_readCommand 76 = .ok (.iload_n 2, 1) := dk_28 (dk_at dksX0_readCommand_3 4 rfl rfl)
theorem dX0_readCommand_77 : decode cX0_readCommand 77 = .ok (.aaload, 1) := dk_50 (dk_at dksX0_readCommand_3 5 rfl rfl)
theorem dX0_readCommand_78 : decode cX0_readCommand 78 = .ok (.invokestatic 457, 3) := dk_184 1 201 (dk_at dksX0_readCommand_3 6 rfl rfl)
theorem dX0_readCommand_81 : decode cX0_readCommand 81 = .ok (.istore 5, 2) := dk_54 5 (dk_at dksX0_readCommand_3 9 rfl rfl)
theorem dX0_readCommand_83 : decode cX0_readCommand 83 = .ok (.iload 5, 2) := dk_21 5 (dk_at dksX0_readCommand_3 11 rfl rfl)
theorem dX0_readCommand_85 : decode cX0_readCommand 85 = .ok (.ifCond .ge 8, 3) := dk_156 0 8 (dk_at dksX0_readCommand_3 13 rfl rfl)
theorem dX0_readCommand_88 : decode cX0_readCommand 88 = .ok (.iload_n 3, 1) := dk_29 (dk_at dksX0_readCommand_3 16 rfl rfl)
theorem dX0_readCommand_89 : decode cX0_readCommand 89 = .ok (.invokestatic 449, 3) := dk_184 1 193 (dk_at dksX0_readCommand_3 17 rfl rfl)
theorem dX0_readCommand_92 : decode cX0_readCommand 92 = .ok (.athrow, 1) := dk_191 (dk_at dksX0_readCommand_3 20 rfl rfl)
theorem dX0_readCommand_93 : decode cX0_readCommand 93 = .ok (.iconst 0, 1) := dk_3 (dk_at dksX0_readCommand_3 21 rfl rfl)
theorem dX0_readCommand_94 : decode cX0_readCommand 94 = .ok (.istore 6, 2) := dk_54 6 (dk_at dksX0_readCommand_3 22 rfl rfl)
theorem dX0_readCommand_96 : decode cX0_readCommand 96 = .ok (.iload 6, 2) := dk_21 6 (dk_at dksX0_readCommand_4 0 rfl rfl)
theorem dX0_readCommand_98 : decode cX0_readCommand 98 = .ok (.iload 5, 2) := dk_21 5 (dk_at dksX0_readCommand_4 2 rfl rfl)
theorem dX0_readCommand_100 : decode cX0_readCommand 100 = .ok (.if_icmp .ge 25, 3) := dk_162 0 25 (dk_at dksX0_readCommand_4 4 rfl rfl)
theorem dX0_readCommand_103 : decode cX0_readCommand 103 = .ok (.aload_n 0, 1) := dk_42 (dk_at dksX0_readCommand_4 7 rfl rfl)
theorem dX0_readCommand_104 : decode cX0_readCommand 104 = .ok (.getfield 59, 3) := dk_180 0 59 (dk_at dksX0_readCommand_4 8 rfl rfl)
theorem dX0_readCommand_107 : decode cX0_readCommand 107 = .ok (.iconst 4, 1) := dk_7 (dk_at dksX0_readCommand_4 11 rfl rfl)
theorem dX0_readCommand_108 : decode cX0_readCommand 108 = .ok (.iload_n 2, 1) := dk_28 (dk_at dksX0_readCommand_4 12 rfl rfl)
theorem dX0_readCommand_109 : decode cX0_readCommand 109 = .ok (.imul, 1) := dk_104 (dk_at dksX0_readCommand_4 13 rfl rfl)
theorem dX0_readCommand_110 : decode cX0_readCommand 110 = .ok (.iload 6, 2) := dk_21 6 (dk_at dksX0_readCommand_4 14 rfl rfl)
theorem dX0_readCommand_112 : decode cX0_readCommand 112 = .ok (.iadd, 1) := dk_96 (dk_at dksX0_readCommand_4 16 rfl rfl)
theorem dX0_readCommand_113 : decode cX0_readCommand 113 = .ok (.aload_n 0, 1) := dk_42 (dk_at dksX0_readCommand_4 17 rfl rfl)
theorem dX0_readCommand_114 : decode cX0_readCommand 114 = .ok (.aload_n 1, 1) := dk_43 (dk_at dksX0_readCommand_4 18 rfl rfl)
theorem dX0_readCommand_115 : decode cX0_readCommand 115 = .ok (.invokevirtual 461, 3) := dk_182 1 205 (dk_at dksX0_readCommand_4 19 rfl rfl)
theorem dX0_readCommand_118 : decode cX0_readCommand 118 = .ok (.iastore, 1) := dk_79 (dk_at dksX0_readCommand_4 22 rfl rfl)
theorem dX0_readCommand_119 : decode cX0_readCommand 119 = .ok (.iinc 6 1, 3) := dk_132 6 1 (dk_at dksX0_readCommand_5 0 rfl rfl)
theorem dX0_readCommand_122 : decode cX0_readCommand 122 = .ok (.goto (-26), 3) := dk_167 255 230 (dk_at dksX0_readCommand_5 3 rfl rfl)
theorem dX0_readCommand_125 : decode cX0_readCommand 125 = .ok (.return_, 1) := dk_177 (dk_at dksX0_readCommand_5 6 rfl rfl)
abbrev cX0_letterAt : ByteArray := prog_1_method_93_code
def yX0_letterAt : MethodName := ⟨RX0, "letterAt", "(Ljava/lang/CharSequence;I)I"⟩
def dkwX0_letterAt_0 : List UInt8 := [27, 42, 185, 1, 179, 1, 0, 162, 0, 13, 42, 27, 185, 1, 182, 2, 0, 167, 0, 4, 2, 172]
abbrev dktX0_letterAt_0 : List UInt8 := dkwX0_letterAt_0 ++ []
theorem dksX0_letterAt_0 : cX0_letterAt.data.toList.drop 0 = dktX0_letterAt_0 := by decide +kernel
theorem dX0_letterAt_0 : decode cX0_letterAt 0 = .ok (.iload_n 1, 1) := dk_27 (dk_at dksX0_letterAt_0 0 rfl rfl)
theorem dX0_letterAt_1 : decode cX0_letterAt 1 = .ok (.aload_n 0, 1) := dk_42 (dk_at dksX0_letterAt_0 1 rfl rfl)
theorem dX0_letterAt_2 : decode cX0_letterAt 2 = .ok (.invokeinterface 435 1, 5) := by decide +kernel
theorem dX0_letterAt_7 : decode cX0_letterAt 7 = .ok (.if_icmp .ge 13, 3) := dk_162 0 13 (dk_at dksX0_letterAt_0 7 rfl rfl)
theorem dX0_letterAt_10 : decode cX0_letterAt 10 = .ok (.aload_n 0, 1) := dk_42 (dk_at dksX0_letterAt_0 10 rfl rfl)
theorem dX0_letterAt_11 : decode cX0_letterAt 11 = .ok (.iload_n 1, 1) := dk_27 (dk_at dksX0_letterAt_0 11 rfl rfl)
theorem dX0_letterAt_12 : decode cX0_letterAt 12 = .ok (.invokeinterface 438 2, 5) := by decide +kernel
theorem dX0_letterAt_17 : decode cX0_letterAt 17 = .ok (.goto 4, 3) := dk_167 0 4 (dk_at dksX0_letterAt_0 17 rfl rfl)
theorem dX0_letterAt_20 : decode cX0_letterAt 20 = .ok (.iconst (-1), 1) := dk_2 (dk_at dksX0_letterAt_0 20 rfl rfl)
theorem dX0_letterAt_21 : decode cX0_letterAt 21 = .ok (.ireturn, 1) := dk_172 (dk_at dksX0_letterAt_0 21 rfl rfl)
abbrev cX0_numbersOf : ByteArray := prog_1_method_92_code
def yX0_numbersOf : MethodName := ⟨RX0, "numbersOf", "(Ljava/lang/String;)I"⟩
def dkwX0_numbersOf_10 : List UInt8 := [7, 167, 0, 17, 5, 167, 0, 13, 4, 167, 0, 9, 3, 167, 0, 5, 16, 254, 172]
abbrev dktX0_numbersOf_10 : List UInt8 := dkwX0_numbersOf_10 ++ []
def dkwX0_numbersOf_9 : List UInt8 := [170, 0, 0, 0, 0, 0, 0, 72, 0, 0, 0, 0, 0, 0, 0, 9, 0, 0, 0, 56, 0, 0, 0, 60, 0, 0, 0, 60, 0, 0, 0, 60, 0, 0, 0, 60, 0, 0, 0, 60, 0, 0, 0, 64, 0, 0, 0, 64, 0, 0, 0, 68, 0, 0, 0, 68]
abbrev dktX0_numbersOf_9 : List UInt8 := dkwX0_numbersOf_9 ++ dktX0_numbersOf_10
def dkwX0_numbersOf_8 : List UInt8 := [182, 1, 159, 153, 0, 6, 16, 9, 61, 28]
abbrev dktX0_numbersOf_8 : List UInt8 := dkwX0_numbersOf_8 ++ dktX0_numbersOf_9
def dkwX0_numbersOf_7 : List UInt8 := [61, 167, 0, 32, 43, 19, 1, 175, 182, 1, 159, 153, 0, 22, 16, 8, 61, 167, 0, 16, 43, 19, 1, 177]
abbrev dktX0_numbersOf_7 : List UInt8 := dkwX0_numbersOf_7 ++ dktX0_numbersOf_8
def dkwX0_numbersOf_6 : List UInt8 := [182, 1, 159, 153, 0, 54, 16, 6, 61, 167, 0, 48, 43, 19, 1, 173, 182, 1, 159, 153, 0, 38, 16, 7]
abbrev dktX0_numbersOf_6 : List UInt8 := dkwX0_numbersOf_6 ++ dktX0_numbersOf_7
def dkwX0_numbersOf_5 : List UInt8 := [7, 61, 167, 0, 79, 43, 19, 1, 170, 182, 1, 159, 153, 0, 69, 8, 61, 167, 0, 64, 43, 19, 1, 172]
abbrev dktX0_numbersOf_5 : List UInt8 := dkwX0_numbersOf_5 ++ dktX0_numbersOf_6
def dkwX0_numbersOf_4 : List UInt8 := [19, 1, 166, 182, 1, 159, 153, 0, 99, 6, 61, 167, 0, 94, 43, 19, 1, 168, 182, 1, 159, 153, 0, 84]
abbrev dktX0_numbersOf_4 : List UInt8 := dkwX0_numbersOf_4 ++ dktX0_numbersOf_5
def dkwX0_numbersOf_3 : List UInt8 := [153, 0, 129, 4, 61, 167, 0, 124, 43, 19, 1, 164, 182, 1, 159, 153, 0, 114, 5, 61, 167, 0, 109, 43]
abbrev dktX0_numbersOf_3 : List UInt8 := dkwX0_numbersOf_3 ++ dktX0_numbersOf_4
def dkwX0_numbersOf_2 : List UInt8 := [43, 19, 1, 157, 182, 1, 159, 153, 0, 144, 3, 61, 167, 0, 139, 43, 19, 1, 162, 182, 1, 159]
abbrev dktX0_numbersOf_2 : List UInt8 := dkwX0_numbersOf_2 ++ dktX0_numbersOf_3
def dkwX0_numbersOf_1 : List UInt8 := [171, 0, 0, 0, 0, 0, 0, 243, 0, 0, 0, 10, 174, 122, 46, 122, 0, 0, 0, 198, 200, 76, 31, 141, 0, 0, 0, 230, 0, 1, 140, 115, 0, 0, 0, 107, 0, 1, 162, 14, 0, 0, 0, 92, 0, 46, 185, 97, 0, 0, 0, 182, 0, 47, 46, 239, 0, 0, 0, 137, 0, 50, 146, 166, 0, 0, 0, 152, 0, 52, 98, 218, 0, 0, 0, 214, 0, 53, 104, 248, 0, 0, 0, 122, 0, 53, 150, 252, 0, 0, 0, 167]
abbrev dktX0_numbersOf_1 : List UInt8 := dkwX0_numbersOf_1 ++ dktX0_numbersOf_2
def dkwX0_numbersOf_0 : List UInt8 := [42, 76, 2, 61, 43, 182, 1, 154]
abbrev dktX0_numbersOf_0 : List UInt8 := dkwX0_numbersOf_0 ++ dktX0_numbersOf_1
theorem dksX0_numbersOf_0 : cX0_numbersOf.data.toList.drop 0 = dktX0_numbersOf_0 := by decide +kernel
theorem dksX0_numbersOf_1 : cX0_numbersOf.data.toList.drop 8 = dktX0_numbersOf_1 := dk_seg dksX0_numbersOf_0 8 rfl rfl
theorem dksX0_numbersOf_2 : cX0_numbersOf.data.toList.drop 100 = dktX0_numbersOf_2 := dk_seg dksX0_numbersOf_1 92 rfl rfl
theorem dksX0_numbersOf_3 : cX0_numbersOf.data.toList.drop 122 = dktX0_numbersOf_3 := dk_seg dksX0_numbersOf_2 22 rfl rfl
theorem dksX0_numbersOf_4 : cX0_numbersOf.data.toList.drop 146 = dktX0_numbersOf_4 := dk_seg dksX0_numbersOf_3 24 rfl rfl
theorem dksX0_numbersOf_5 : cX0_numbersOf.data.toList.drop 170 = dktX0_numbersOf_5 := dk_seg dksX0_numbersOf_4 24 rfl rfl
theorem dksX0_numbersOf_6 : cX0_numbersOf.data.toList.drop 194 = dktX0_numbersOf_6 := dk_seg dksX0_numbersOf_5 24 rfl rfl
theorem dksX0_numbersOf_7 : cX0_numbersOf.data.toList.drop 218 = dktX0_numbersOf_7 := dk_seg dksX0_numbersOf_6 24 rfl rfl
theorem dksX0_numbersOf_8 : cX0_numbersOf.data.toList.drop 242 = dktX0_numbersOf_8 := dk_seg dksX0_numbersOf_7 24 rfl rfl
theorem dksX0_numbersOf_9 : cX0_numbersOf.data.toList.drop 252 = dktX0_numbersOf_9 := dk_seg dksX0_numbersOf_8 10 rfl rfl
theorem dksX0_numbersOf_10 : cX0_numbersOf.data.toList.drop 308 = dktX0_numbersOf_10 := dk_seg dksX0_numbersOf_9 56 rfl rfl
theorem dX0_numbersOf_0 : decode cX0_numbersOf 0 = .ok (.aload_n 0, 1) := dk_42 (dk_at dksX0_numbersOf_0 0 rfl rfl)
theorem dX0_numbersOf_1 : decode cX0_numbersOf 1 = .ok (.astore_n 1, 1) := dk_76 (dk_at dksX0_numbersOf_0 1 rfl rfl)
theorem dX0_numbersOf_2 : decode cX0_numbersOf 2 = .ok (.iconst (-1), 1) := dk_2 (dk_at dksX0_numbersOf_0 2 rfl rfl)
theorem dX0_numbersOf_3 : decode cX0_numbersOf 3 = .ok (.istore_n 2, 1) := dk_61 (dk_at dksX0_numbersOf_0 3 rfl rfl)
theorem dX0_numbersOf_4 : decode cX0_numbersOf 4 = .ok (.aload_n 1, 1) := dk_43 (dk_at dksX0_numbersOf_0 4 rfl rfl)
theorem dX0_numbersOf_5 : decode cX0_numbersOf 5 = .ok (.invokevirtual 410, 3) := dk_182 1 154 (dk_at dksX0_numbersOf_0 5 rfl rfl)
theorem dX0_numbersOf_8 : decode cX0_numbersOf 8 = .ok (.lookupswitch 243 #[(-1367724422, 198), (-934535283, 230), (101491, 107), (107022, 92), (3062113, 182), (3092207, 137), (3314342, 152), (3433178, 214), (3500280, 122), (3512060, 167)], 92) := by decide +kernel
theorem dX0_numbersOf_100 : decode cX0_numbersOf 100 = .ok (.aload_n 1, 1) := dk_43 (dk_at dksX0_numbersOf_2 0 rfl rfl)
theorem dX0_numbersOf_101 : decode cX0_numbersOf 101 = .ok (.ldc_w 413, 3) := dk_19 1 157 (dk_at dksX0_numbersOf_2 1 rfl rfl)
theorem dX0_numbersOf_104 : decode cX0_numbersOf 104 = .ok (.invokevirtual 415, 3) := dk_182 1 159 (dk_at dksX0_numbersOf_2 4 rfl rfl)
theorem dX0_numbersOf_107 : decode cX0_numbersOf 107 = .ok (.ifCond .eq 144, 3) := dk_153 0 144 (dk_at dksX0_numbersOf_2 7 rfl rfl)
theorem dX0_numbersOf_110 : decode cX0_numbersOf 110 = .ok (.iconst 0, 1) := dk_3 (dk_at dksX0_numbersOf_2 10 rfl rfl)
theorem dX0_numbersOf_111 : decode cX0_numbersOf 111 = .ok (.istore_n 2, 1) := dk_61 (dk_at dksX0_numbersOf_2 11 rfl rfl)
theorem dX0_numbersOf_112 : decode cX0_numbersOf 112 = .ok (.goto 139, 3) := dk_167 0 139 (dk_at dksX0_numbersOf_2 12 rfl rfl)
theorem dX0_numbersOf_115 : decode cX0_numbersOf 115 = .ok (.aload_n 1, 1) := dk_43 (dk_at dksX0_numbersOf_2 15 rfl rfl)
theorem dX0_numbersOf_116 : decode cX0_numbersOf 116 = .ok (.ldc_w 418, 3) := dk_19 1 162 (dk_at dksX0_numbersOf_2 16 rfl rfl)
theorem dX0_numbersOf_119 : decode cX0_numbersOf 119 = .ok (.invokevirtual 415, 3) := dk_182 1 159 (dk_at dksX0_numbersOf_2 19 rfl rfl)
theorem dX0_numbersOf_122 : decode cX0_numbersOf 122 = .ok (.ifCond .eq 129, 3) := dk_153 0 129 (dk_at dksX0_numbersOf_3 0 rfl rfl)
theorem dX0_numbersOf_125 : decode cX0_numbersOf 125 = .ok (.iconst 1, 1) := dk_4 (dk_at dksX0_numbersOf_3 3 rfl rfl)
theorem dX0_numbersOf_126 : decode cX0_numbersOf 126 = .ok (.istore_n 2, 1) := dk_61 (dk_at dksX0_numbersOf_3 4 rfl rfl)
theorem dX0_numbersOf_127 : decode cX0_numbersOf 127 = .ok (.goto 124, 3) := dk_167 0 124 (dk_at dksX0_numbersOf_3 5 rfl rfl)
theorem dX0_numbersOf_130 : decode cX0_numbersOf 130 = .ok (.aload_n 1, 1) := dk_43 (dk_at dksX0_numbersOf_3 8 rfl rfl)
theorem dX0_numbersOf_131 : decode cX0_numbersOf 131 = .ok (.ldc_w 420, 3) := dk_19 1 164 (dk_at dksX0_numbersOf_3 9 rfl rfl)
theorem dX0_numbersOf_134 : decode cX0_numbersOf 134 = .ok (.invokevirtual 415, 3) := dk_182 1 159 (dk_at dksX0_numbersOf_3 12 rfl rfl)
theorem dX0_numbersOf_137 : decode cX0_numbersOf 137 = .ok (.ifCond .eq 114, 3) := dk_153 0 114 (dk_at dksX0_numbersOf_3 15 rfl rfl)
theorem dX0_numbersOf_140 : decode cX0_numbersOf 140 = .ok (.iconst 2, 1) := dk_5 (dk_at dksX0_numbersOf_3 18 rfl rfl)
theorem dX0_numbersOf_141 : decode cX0_numbersOf 141 = .ok (.istore_n 2, 1) := dk_61 (dk_at dksX0_numbersOf_3 19 rfl rfl)
theorem dX0_numbersOf_142 : decode cX0_numbersOf 142 = .ok (.goto 109, 3) := dk_167 0 109 (dk_at dksX0_numbersOf_3 20 rfl rfl)
theorem dX0_numbersOf_145 : decode cX0_numbersOf 145 = .ok (.aload_n 1, 1) := dk_43 (dk_at dksX0_numbersOf_3 23 rfl rfl)
theorem dX0_numbersOf_146 : decode cX0_numbersOf 146 = .ok (.ldc_w 422, 3) := dk_19 1 166 (dk_at dksX0_numbersOf_4 0 rfl rfl)
theorem dX0_numbersOf_149 : decode cX0_numbersOf 149 = .ok (.invokevirtual 415, 3) := dk_182 1 159 (dk_at dksX0_numbersOf_4 3 rfl rfl)
theorem dX0_numbersOf_152 : decode cX0_numbersOf 152 = .ok (.ifCond .eq 99, 3) := dk_153 0 99 (dk_at dksX0_numbersOf_4 6 rfl rfl)
theorem dX0_numbersOf_155 : decode cX0_numbersOf 155 = .ok (.iconst 3, 1) := dk_6 (dk_at dksX0_numbersOf_4 9 rfl rfl)
theorem dX0_numbersOf_156 : decode cX0_numbersOf 156 = .ok (.istore_n 2, 1) := dk_61 (dk_at dksX0_numbersOf_4 10 rfl rfl)
theorem dX0_numbersOf_157 : decode cX0_numbersOf 157 = .ok (.goto 94, 3) := dk_167 0 94 (dk_at dksX0_numbersOf_4 11 rfl rfl)
theorem dX0_numbersOf_160 : decode cX0_numbersOf 160 = .ok (.aload_n 1, 1) := dk_43 (dk_at dksX0_numbersOf_4 14 rfl rfl)
theorem dX0_numbersOf_161 : decode cX0_numbersOf 161 = .ok (.ldc_w 424, 3) := dk_19 1 168 (dk_at dksX0_numbersOf_4 15 rfl rfl)
theorem dX0_numbersOf_164 : decode cX0_numbersOf 164 = .ok (.invokevirtual 415, 3) := dk_182 1 159 (dk_at dksX0_numbersOf_4 18 rfl rfl)
theorem dX0_numbersOf_167 : decode cX0_numbersOf 167 = .ok (.ifCond .eq 84, 3) := dk_153 0 84 (dk_at dksX0_numbersOf_4 21 rfl rfl)
theorem dX0_numbersOf_170 : decode cX0_numbersOf 170 = .ok (.iconst 4, 1) := dk_7 (dk_at dksX0_numbersOf_5 0 rfl rfl)
theorem dX0_numbersOf_171 : decode cX0_numbersOf 171 = .ok (.istore_n 2, 1) := dk_61 (dk_at dksX0_numbersOf_5 1 rfl rfl)
theorem dX0_numbersOf_172 : decode cX0_numbersOf 172 = .ok (.goto 79, 3) := dk_167 0 79 (dk_at dksX0_numbersOf_5 2 rfl rfl)
theorem dX0_numbersOf_175 : decode cX0_numbersOf 175 = .ok (.aload_n 1, 1) := dk_43 (dk_at dksX0_numbersOf_5 5 rfl rfl)
theorem dX0_numbersOf_176 : decode cX0_numbersOf 176 = .ok (.ldc_w 426, 3) := dk_19 1 170 (dk_at dksX0_numbersOf_5 6 rfl rfl)
theorem dX0_numbersOf_179 : decode cX0_numbersOf 179 = .ok (.invokevirtual 415, 3) := dk_182 1 159 (dk_at dksX0_numbersOf_5 9 rfl rfl)
theorem dX0_numbersOf_182 : decode cX0_numbersOf 182 = .ok (.ifCond .eq 69, 3) := dk_153 0 69 (dk_at dksX0_numbersOf_5 12 rfl rfl)
theorem dX0_numbersOf_185 : decode cX0_numbersOf 185 = .ok (.iconst 5, 1) := dk_8 (dk_at dksX0_numbersOf_5 15 rfl rfl)
theorem dX0_numbersOf_186 : decode cX0_numbersOf 186 = .ok (.istore_n 2, 1) := dk_61 (dk_at dksX0_numbersOf_5 16 rfl rfl)
theorem dX0_numbersOf_187 : decode cX0_numbersOf 187 = .ok (.goto 64, 3) := dk_167 0 64 (dk_at dksX0_numbersOf_5 17 rfl rfl)
theorem dX0_numbersOf_190 : decode cX0_numbersOf 190 = .ok (.aload_n 1, 1) := dk_43 (dk_at dksX0_numbersOf_5 20 rfl rfl)
theorem dX0_numbersOf_191 : decode cX0_numbersOf 191 = .ok (.ldc_w 428, 3) := dk_19 1 172 (dk_at dksX0_numbersOf_5 21 rfl rfl)
theorem dX0_numbersOf_194 : decode cX0_numbersOf 194 = .ok (.invokevirtual 415, 3) := dk_182 1 159 (dk_at dksX0_numbersOf_6 0 rfl rfl)
theorem dX0_numbersOf_197 : decode cX0_numbersOf 197 = .ok (.ifCond .eq 54, 3) := dk_153 0 54 (dk_at dksX0_numbersOf_6 3 rfl rfl)
theorem dX0_numbersOf_200 : decode cX0_numbersOf 200 = .ok (.bipush 6, 2) := dk_16 6 (dk_at dksX0_numbersOf_6 6 rfl rfl)
theorem dX0_numbersOf_202 : decode cX0_numbersOf 202 = .ok (.istore_n 2, 1) := dk_61 (dk_at dksX0_numbersOf_6 8 rfl rfl)
theorem dX0_numbersOf_203 : decode cX0_numbersOf 203 = .ok (.goto 48, 3) := dk_167 0 48 (dk_at dksX0_numbersOf_6 9 rfl rfl)
theorem dX0_numbersOf_206 : decode cX0_numbersOf 206 = .ok (.aload_n 1, 1) := dk_43 (dk_at dksX0_numbersOf_6 12 rfl rfl)
theorem dX0_numbersOf_207 : decode cX0_numbersOf 207 = .ok (.ldc_w 429, 3) := dk_19 1 173 (dk_at dksX0_numbersOf_6 13 rfl rfl)
theorem dX0_numbersOf_210 : decode cX0_numbersOf 210 = .ok (.invokevirtual 415, 3) := dk_182 1 159 (dk_at dksX0_numbersOf_6 16 rfl rfl)
theorem dX0_numbersOf_213 : decode cX0_numbersOf 213 = .ok (.ifCond .eq 38, 3) := dk_153 0 38 (dk_at dksX0_numbersOf_6 19 rfl rfl)
theorem dX0_numbersOf_216 : decode cX0_numbersOf 216 = .ok (.bipush 7, 2) := dk_16 7 (dk_at dksX0_numbersOf_6 22 rfl rfl)
theorem dX0_numbersOf_218 : decode cX0_numbersOf 218 = .ok (.istore_n 2, 1) := dk_61 (dk_at dksX0_numbersOf_7 0 rfl rfl)
theorem dX0_numbersOf_219 : decode cX0_numbersOf 219 = .ok (.goto 32, 3) := dk_167 0 32 (dk_at dksX0_numbersOf_7 1 rfl rfl)
theorem dX0_numbersOf_222 : decode cX0_numbersOf 222 = .ok (.aload_n 1, 1) := dk_43 (dk_at dksX0_numbersOf_7 4 rfl rfl)
theorem dX0_numbersOf_223 : decode cX0_numbersOf 223 = .ok (.ldc_w 431, 3) := dk_19 1 175 (dk_at dksX0_numbersOf_7 5 rfl rfl)
theorem dX0_numbersOf_226 : decode cX0_numbersOf 226 = .ok (.invokevirtual 415, 3) := dk_182 1 159 (dk_at dksX0_numbersOf_7 8 rfl rfl)
theorem dX0_numbersOf_229 : decode cX0_numbersOf 229 = .ok (.ifCond .eq 22, 3) := dk_153 0 22 (dk_at dksX0_numbersOf_7 11 rfl rfl)
theorem dX0_numbersOf_232 : decode cX0_numbersOf 232 = .ok (.bipush 8, 2) := dk_16 8 (dk_at dksX0_numbersOf_7 14 rfl rfl)
theorem dX0_numbersOf_234 : decode cX0_numbersOf 234 = .ok (.istore_n 2, 1) := dk_61 (dk_at dksX0_numbersOf_7 16 rfl rfl)
theorem dX0_numbersOf_235 : decode cX0_numbersOf 235 = .ok (.goto 16, 3) := dk_167 0 16 (dk_at dksX0_numbersOf_7 17 rfl rfl)
theorem dX0_numbersOf_238 : decode cX0_numbersOf 238 = .ok (.aload_n 1, 1) := dk_43 (dk_at dksX0_numbersOf_7 20 rfl rfl)
theorem dX0_numbersOf_239 : decode cX0_numbersOf 239 = .ok (.ldc_w 433, 3) := dk_19 1 177 (dk_at dksX0_numbersOf_7 21 rfl rfl)
theorem dX0_numbersOf_242 : decode cX0_numbersOf 242 = .ok (.invokevirtual 415, 3) := dk_182 1 159 (dk_at dksX0_numbersOf_8 0 rfl rfl)
theorem dX0_numbersOf_245 : decode cX0_numbersOf 245 = .ok (.ifCond .eq 6, 3) := dk_153 0 6 (dk_at dksX0_numbersOf_8 3 rfl rfl)
theorem dX0_numbersOf_248 : decode cX0_numbersOf 248 = .ok (.bipush 9, 2) := dk_16 9 (dk_at dksX0_numbersOf_8 6 rfl rfl)
theorem dX0_numbersOf_250 : decode cX0_numbersOf 250 = .ok (.istore_n 2, 1) := dk_61 (dk_at dksX0_numbersOf_8 8 rfl rfl)
theorem dX0_numbersOf_251 : decode cX0_numbersOf 251 = .ok (.iload_n 2, 1) := dk_28 (dk_at dksX0_numbersOf_8 9 rfl rfl)
theorem dX0_numbersOf_252 : decode cX0_numbersOf 252 = .ok (.tableswitch 72 0 9 #[56, 60, 60, 60, 60, 60, 64, 64, 68, 68], 56) := by decide +kernel
theorem dX0_numbersOf_308 : decode cX0_numbersOf 308 = .ok (.iconst 4, 1) := dk_7 (dk_at dksX0_numbersOf_10 0 rfl rfl)
theorem dX0_numbersOf_309 : decode cX0_numbersOf 309 = .ok (.goto 17, 3) := dk_167 0 17 (dk_at dksX0_numbersOf_10 1 rfl rfl)
theorem dX0_numbersOf_312 : decode cX0_numbersOf 312 = .ok (.iconst 2, 1) := dk_5 (dk_at dksX0_numbersOf_10 4 rfl rfl)
theorem dX0_numbersOf_313 : decode cX0_numbersOf 313 = .ok (.goto 13, 3) := dk_167 0 13 (dk_at dksX0_numbersOf_10 5 rfl rfl)
theorem dX0_numbersOf_316 : decode cX0_numbersOf 316 = .ok (.iconst 1, 1) := dk_4 (dk_at dksX0_numbersOf_10 8 rfl rfl)
theorem dX0_numbersOf_317 : decode cX0_numbersOf 317 = .ok (.goto 9, 3) := dk_167 0 9 (dk_at dksX0_numbersOf_10 9 rfl rfl)
theorem dX0_numbersOf_320 : decode cX0_numbersOf 320 = .ok (.iconst 0, 1) := dk_3 (dk_at dksX0_numbersOf_10 12 rfl rfl)
theorem dX0_numbersOf_321 : decode cX0_numbersOf 321 = .ok (.goto 5, 3) := dk_167 0 5 (dk_at dksX0_numbersOf_10 13 rfl rfl)
theorem dX0_numbersOf_324 : decode cX0_numbersOf 324 = .ok (.bipush (-2), 2) := dk_16 254 (dk_at dksX0_numbersOf_10 16 rfl rfl)
theorem dX0_numbersOf_326 : decode cX0_numbersOf 326 = .ok (.ireturn, 1) := dk_172 (dk_at dksX0_numbersOf_10 18 rfl rfl)
abbrev cX0_error : ByteArray := prog_1_method_94_code
def yX0_error : MethodName := ⟨RX0, "error", "(I)LCrewPairer$CommandException;"⟩
def dkwX0_error_0 : List UInt8 := [187, 1, 183, 89, 17, 255, 56, 26, 100, 183, 1, 185, 176]
abbrev dktX0_error_0 : List UInt8 := dkwX0_error_0 ++ []
theorem dksX0_error_0 : cX0_error.data.toList.drop 0 = dktX0_error_0 := by decide +kernel
theorem dX0_error_0 : decode cX0_error 0 = .ok (.new 439, 3) := dk_187 1 183 (dk_at dksX0_error_0 0 rfl rfl)
theorem dX0_error_3 : decode cX0_error 3 = .ok (.dup, 1) := dk_89 (dk_at dksX0_error_0 3 rfl rfl)
theorem dX0_error_4 : decode cX0_error 4 = .ok (.sipush (-200), 3) := dk_17 255 56 (dk_at dksX0_error_0 4 rfl rfl)
theorem dX0_error_7 : decode cX0_error 7 = .ok (.iload_n 0, 1) := dk_26 (dk_at dksX0_error_0 7 rfl rfl)
theorem dX0_error_8 : decode cX0_error 8 = .ok (.isub, 1) := dk_100 (dk_at dksX0_error_0 8 rfl rfl)
theorem dX0_error_9 : decode cX0_error 9 = .ok (.invokespecial 441, 3) := dk_183 1 185 (dk_at dksX0_error_0 9 rfl rfl)
theorem dX0_error_12 : decode cX0_error 12 = .ok (.areturn, 1) := dk_176 (dk_at dksX0_error_0 12 rfl rfl)
abbrev cX0_readNumber : ByteArray := prog_1_method_95_code
def yX0_readNumber : MethodName := ⟨RX0, "readNumber", "(Ljava/lang/CharSequence;)I"⟩
def dkwX0_readNumber_5 : List UInt8 := [167, 255, 203, 28, 172]
abbrev dktX0_readNumber_5 : List UInt8 := dkwX0_readNumber_5 ++ []
def dkwX0_readNumber_4 : List UInt8 := [180, 1, 186, 184, 1, 189, 96, 16, 48, 100, 61, 42, 89, 180, 1, 186, 4, 96, 181, 1, 186, 132, 3, 1]
abbrev dktX0_readNumber_4 : List UInt8 := dkwX0_readNumber_4 ++ dktX0_readNumber_5
def dkwX0_readNumber_3 : List UInt8 := [180, 1, 186, 184, 1, 189, 16, 48, 16, 57, 184, 0, 72, 153, 0, 36, 16, 10, 28, 104, 43, 42]
abbrev dktX0_readNumber_3 : List UInt8 := dkwX0_readNumber_3 ++ dktX0_readNumber_4
def dkwX0_readNumber_2 : List UInt8 := [154, 0, 11, 42, 180, 1, 186, 184, 1, 193, 191, 3, 61, 3, 62, 29, 7, 162, 0, 54, 43, 42]
abbrev dktX0_readNumber_2 : List UInt8 := dkwX0_readNumber_2 ++ dktX0_readNumber_3
def dkwX0_readNumber_1 : List UInt8 := [180, 1, 186, 4, 96, 181, 1, 186, 43, 42, 180, 1, 186, 184, 1, 189, 16, 48, 16, 57, 184, 0, 72]
abbrev dktX0_readNumber_1 : List UInt8 := dkwX0_readNumber_1 ++ dktX0_readNumber_2
def dkwX0_readNumber_0 : List UInt8 := [43, 42, 180, 1, 186, 184, 1, 189, 16, 32, 159, 0, 11, 42, 180, 1, 186, 184, 1, 193, 191, 42, 89]
abbrev dktX0_readNumber_0 : List UInt8 := dkwX0_readNumber_0 ++ dktX0_readNumber_1
theorem dksX0_readNumber_0 : cX0_readNumber.data.toList.drop 0 = dktX0_readNumber_0 := by decide +kernel
theorem dksX0_readNumber_1 : cX0_readNumber.data.toList.drop 23 = dktX0_readNumber_1 := dk_seg dksX0_readNumber_0 23 rfl rfl
theorem dksX0_readNumber_2 : cX0_readNumber.data.toList.drop 46 = dktX0_readNumber_2 := dk_seg dksX0_readNumber_1 23 rfl rfl
theorem dksX0_readNumber_3 : cX0_readNumber.data.toList.drop 68 = dktX0_readNumber_3 := dk_seg dksX0_readNumber_2 22 rfl rfl
theorem dksX0_readNumber_4 : cX0_readNumber.data.toList.drop 90 = dktX0_readNumber_4 := dk_seg dksX0_readNumber_3 22 rfl rfl
theorem dksX0_readNumber_5 : cX0_readNumber.data.toList.drop 114 = dktX0_readNumber_5 := dk_seg dksX0_readNumber_4 24 rfl rfl
theorem dX0_readNumber_0 : decode cX0_readNumber 0 = .ok (.aload_n 1, 1) := dk_43 (dk_at dksX0_readNumber_0 0 rfl rfl)
theorem dX0_readNumber_1 : decode cX0_readNumber 1 = .ok (.aload_n 0, 1) := dk_42 (dk_at dksX0_readNumber_0 1 rfl rfl)
theorem dX0_readNumber_2 : decode cX0_readNumber 2 = .ok (.getfield 442, 3) := dk_180 1 186 (dk_at dksX0_readNumber_0 2 rfl rfl)
theorem dX0_readNumber_5 : decode cX0_readNumber 5 = .ok (.invokestatic 445, 3) := dk_184 1 189 (dk_at dksX0_readNumber_0 5 rfl rfl)
theorem dX0_readNumber_8 : decode cX0_readNumber 8 = .ok (.bipush 32, 2) := dk_16 32 (dk_at dksX0_readNumber_0 8 rfl rfl)
theorem dX0_readNumber_10 : decode cX0_readNumber 10 = .ok (.if_icmp .eq 11, 3) := dk_159 0 11 (dk_at dksX0_readNumber_0 10 rfl rfl)
theorem dX0_readNumber_13 : decode cX0_readNumber 13 = .ok (.aload_n 0, 1) := dk_42 (dk_at dksX0_readNumber_0 13 rfl rfl)
theorem dX0_readNumber_14 : decode cX0_readNumber 14 = .ok (.getfield 442, 3) := dk_180 1 186 (dk_at dksX0_readNumber_0 14 rfl rfl)
theorem dX0_readNumber_17 : decode cX0_readNumber 17 = .ok (.invokestatic 449, 3) := dk_184 1 193 (dk_at dksX0_readNumber_0 17 rfl rfl)
theorem dX0_readNumber_20 : decode cX0_readNumber 20 = .ok (.athrow, 1) := dk_191 (dk_at dksX0_readNumber_0 20 rfl rfl)
theorem dX0_readNumber_21 : decode cX0_readNumber 21 = .ok (.aload_n 0, 1) := dk_42 (dk_at dksX0_readNumber_0 21 rfl rfl)
theorem dX0_readNumber_22 : decode cX0_readNumber 22 = .ok (.dup, 1) := dk_89 (dk_at dksX0_readNumber_0 22 rfl rfl)
theorem dX0_readNumber_23 : decode cX0_readNumber 23 = .ok (.getfield 442, 3) := dk_180 1 186 (dk_at dksX0_readNumber_1 0 rfl rfl)
theorem dX0_readNumber_26 : decode cX0_readNumber 26 = .ok (.iconst 1, 1) := dk_4 (dk_at dksX0_readNumber_1 3 rfl rfl)
theorem dX0_readNumber_27 : decode cX0_readNumber 27 = .ok (.iadd, 1) := dk_96 (dk_at dksX0_readNumber_1 4 rfl rfl)
theorem dX0_readNumber_28 : decode cX0_readNumber 28 = .ok (.putfield 442, 3) := dk_181 1 186 (dk_at dksX0_readNumber_1 5 rfl rfl)
theorem dX0_readNumber_31 : decode cX0_readNumber 31 = .ok (.aload_n 1, 1) := dk_43 (dk_at dksX0_readNumber_1 8 rfl rfl)
theorem dX0_readNumber_32 : decode cX0_readNumber 32 = .ok (.aload_n 0, 1) := dk_42 (dk_at dksX0_readNumber_1 9 rfl rfl)
theorem dX0_readNumber_33 : decode cX0_readNumber 33 = .ok (.getfield 442, 3) := dk_180 1 186 (dk_at dksX0_readNumber_1 10 rfl rfl)
theorem dX0_readNumber_36 : decode cX0_readNumber 36 = .ok (.invokestatic 445, 3) := dk_184 1 189 (dk_at dksX0_readNumber_1 13 rfl rfl)
theorem dX0_readNumber_39 : decode cX0_readNumber 39 = .ok (.bipush 48, 2) := dk_16 48 (dk_at dksX0_readNumber_1 16 rfl rfl)
theorem dX0_readNumber_41 : decode cX0_readNumber 41 = .ok (.bipush 57, 2) := dk_16 57 (dk_at dksX0_readNumber_1 18 rfl rfl)
theorem dX0_readNumber_43 : decode cX0_readNumber 43 = .ok (.invokestatic 72, 3) := dk_184 0 72 (dk_at dksX0_readNumber_1 20 rfl rfl)
theorem dX0_readNumber_46 : decode cX0_readNumber 46 = .ok (.ifCond .ne 11, 3) := dk_154 0 11 (dk_at dksX0_readNumber_2 0 rfl rfl)
theorem dX0_readNumber_49 : decode cX0_readNumber 49 = .ok (.aload_n 0, 1) := dk_42 (dk_at dksX0_readNumber_2 3 rfl rfl)
theorem dX0_readNumber_50 : decode cX0_readNumber 50 = .ok (.getfield 442, 3) := dk_180 1 186 (dk_at dksX0_readNumber_2 4 rfl rfl)
theorem dX0_readNumber_53 : decode cX0_readNumber 53 = .ok (.invokestatic 449, 3) := dk_184 1 193 (dk_at dksX0_readNumber_2 7 rfl rfl)
theorem dX0_readNumber_56 : decode cX0_readNumber 56 = .ok (.athrow, 1) := dk_191 (dk_at dksX0_readNumber_2 10 rfl rfl)
theorem dX0_readNumber_57 : decode cX0_readNumber 57 = .ok (.iconst 0, 1) := dk_3 (dk_at dksX0_readNumber_2 11 rfl rfl)
theorem dX0_readNumber_58 : decode cX0_readNumber 58 = .ok (.istore_n 2, 1) := dk_61 (dk_at dksX0_readNumber_2 12 rfl rfl)
theorem dX0_readNumber_59 : decode cX0_readNumber 59 = .ok (.iconst 0, 1) := dk_3 (dk_at dksX0_readNumber_2 13 rfl rfl)
theorem dX0_readNumber_60 : decode cX0_readNumber 60 = .ok (.istore_n 3, 1) := dk_62 (dk_at dksX0_readNumber_2 14 rfl rfl)
theorem dX0_readNumber_61 : decode cX0_readNumber 61 = .ok (.iload_n 3, 1) := dk_29 (dk_at dksX0_readNumber_2 15 rfl rfl)
theorem dX0_readNumber_62 : decode cX0_readNumber 62 = .ok (.iconst 4, 1) := dk_7 (dk_at dksX0_readNumber_2 16 rfl rfl)
theorem dX0_readNumber_63 : decode cX0_readNumber 63 = .ok (.if_icmp .ge 54, 3) := dk_162 0 54 (dk_at dksX0_readNumber_2 17 rfl rfl)
theorem dX0_readNumber_66 : decode cX0_readNumber 66 = .ok (.aload_n 1, 1) := dk_43 (dk_at dksX0_readNumber_2 20 rfl rfl)
theorem dX0_readNumber_67 : decode cX0_readNumber 67 = .ok (.aload_n 0, 1) := dk_42 (dk_at dksX0_readNumber_2 21 rfl rfl)
theorem dX0_readNumber_68 : decode cX0_readNumber 68 = .ok (.getfield 442, 3) := dk_180 1 186 (dk_at dksX0_readNumber_3 0 rfl rfl)
theorem dX0_readNumber_71 : decode cX0_readNumber 71 = .ok (.invokestatic 445, 3) := dk_184 1 189 (dk_at dksX0_readNumber_3 3 rfl rfl)
theorem dX0_readNumber_74 : decode cX0_readNumber 74 = .ok (.bipush 48, 2) := dk_16 48 (dk_at dksX0_readNumber_3 6 rfl rfl)
theorem dX0_readNumber_76 : decode cX0_readNumber 76 = .ok (.bipush 57, 2) := dk_16 57 (dk_at dksX0_readNumber_3 8 rfl rfl)
theorem dX0_readNumber_78 : decode cX0_readNumber 78 = .ok (.invokestatic 72, 3) := dk_184 0 72 (dk_at dksX0_readNumber_3 10 rfl rfl)
theorem dX0_readNumber_81 : decode cX0_readNumber 81 = .ok (.ifCond .eq 36, 3) := dk_153 0 36 (dk_at dksX0_readNumber_3 13 rfl rfl)
theorem dX0_readNumber_84 : decode cX0_readNumber 84 = .ok (.bipush 10, 2) := dk_16 10 (dk_at dksX0_readNumber_3 16 rfl rfl)
theorem dX0_readNumber_86 : decode cX0_readNumber 86 = .ok (.iload_n 2, 1) := dk_28 (dk_at dksX0_readNumber_3 18 rfl rfl)
theorem dX0_readNumber_87 : decode cX0_readNumber 87 = .ok (.imul, 1) := dk_104 (dk_at dksX0_readNumber_3 19 rfl rfl)
theorem dX0_readNumber_88 : decode cX0_readNumber 88 = .ok (.aload_n 1, 1) := dk_43 (dk_at dksX0_readNumber_3 20 rfl rfl)
theorem dX0_readNumber_89 : decode cX0_readNumber 89 = .ok (.aload_n 0, 1) := dk_42 (dk_at dksX0_readNumber_3 21 rfl rfl)
theorem dX0_readNumber_90 : decode cX0_readNumber 90 = .ok (.getfield 442, 3) := dk_180 1 186 (dk_at dksX0_readNumber_4 0 rfl rfl)
theorem dX0_readNumber_93 : decode cX0_readNumber 93 = .ok (.invokestatic 445, 3) := dk_184 1 189 (dk_at dksX0_readNumber_4 3 rfl rfl)
theorem dX0_readNumber_96 : decode cX0_readNumber 96 = .ok (.iadd, 1) := dk_96 (dk_at dksX0_readNumber_4 6 rfl rfl)
theorem dX0_readNumber_97 : decode cX0_readNumber 97 = .ok (.bipush 48, 2) := dk_16 48 (dk_at dksX0_readNumber_4 7 rfl rfl)
theorem dX0_readNumber_99 : decode cX0_readNumber 99 = .ok (.isub, 1) := dk_100 (dk_at dksX0_readNumber_4 9 rfl rfl)
theorem dX0_readNumber_100 : decode cX0_readNumber 100 = .ok (.istore_n 2, 1) := dk_61 (dk_at dksX0_readNumber_4 10 rfl rfl)
theorem dX0_readNumber_101 : decode cX0_readNumber 101 = .ok (.aload_n 0, 1) := dk_42 (dk_at dksX0_readNumber_4 11 rfl rfl)
theorem dX0_readNumber_102 : decode cX0_readNumber 102 = .ok (.dup, 1) := dk_89 (dk_at dksX0_readNumber_4 12 rfl rfl)
theorem dX0_readNumber_103 : decode cX0_readNumber 103 = .ok (.getfield 442, 3) := dk_180 1 186 (dk_at dksX0_readNumber_4 13 rfl rfl)
theorem dX0_readNumber_106 : decode cX0_readNumber 106 = .ok (.iconst 1, 1) := dk_4 (dk_at dksX0_readNumber_4 16 rfl rfl)
theorem dX0_readNumber_107 : decode cX0_readNumber 107 = .ok (.iadd, 1) := dk_96 (dk_at dksX0_readNumber_4 17 rfl rfl)
theorem dX0_readNumber_108 : decode cX0_readNumber 108 = .ok (.putfield 442, 3) := dk_181 1 186 (dk_at dksX0_readNumber_4 18 rfl rfl)
theorem dX0_readNumber_111 : decode cX0_readNumber 111 = .ok (.iinc 3 1, 3) := dk_132 3 1 (dk_at dksX0_readNumber_4 21 rfl rfl)
theorem dX0_readNumber_114 : decode cX0_readNumber 114 = .ok (.goto (-53), 3) := dk_167 255 203 (dk_at dksX0_readNumber_5 0 rfl rfl)
theorem dX0_readNumber_117 : decode cX0_readNumber 117 = .ok (.iload_n 2, 1) := dk_28 (dk_at dksX0_readNumber_5 3 rfl rfl)
theorem dX0_readNumber_118 : decode cX0_readNumber 118 = .ok (.ireturn, 1) := dk_172 (dk_at dksX0_readNumber_5 4 rfl rfl)
abbrev cX0_performAll : ByteArray := prog_1_method_99_code
def yX0_performAll : MethodName := ⟨RX0, "performAll", "(I)V"⟩
def dkwX0_performAll_1 : List UInt8 := [183, 1, 185, 191, 132, 2, 1, 167, 255, 227, 177]
abbrev dktX0_performAll_1 : List UInt8 := dkwX0_performAll_1 ++ []
def dkwX0_performAll_0 : List UInt8 := [3, 61, 28, 27, 162, 0, 30, 42, 28, 182, 1, 238, 156, 0, 16, 187, 1, 183, 89, 17, 254, 212, 28, 100]
abbrev dktX0_performAll_0 : List UInt8 := dkwX0_performAll_0 ++ dktX0_performAll_1
theorem dksX0_performAll_0 : cX0_performAll.data.toList.drop 0 = dktX0_performAll_0 := by decide +kernel
theorem dksX0_performAll_1 : cX0_performAll.data.toList.drop 24 = dktX0_performAll_1 := dk_seg dksX0_performAll_0 24 rfl rfl
theorem dX0_performAll_0 : decode cX0_performAll 0 = .ok (.iconst 0, 1) := dk_3 (dk_at dksX0_performAll_0 0 rfl rfl)
theorem dX0_performAll_1 : decode cX0_performAll 1 = .ok (.istore_n 2, 1) := dk_61 (dk_at dksX0_performAll_0 1 rfl rfl)
theorem dX0_performAll_2 : decode cX0_performAll 2 = .ok (.iload_n 2, 1) := dk_28 (dk_at dksX0_performAll_0 2 rfl rfl)
theorem dX0_performAll_3 : decode cX0_performAll 3 = .ok (.iload_n 1, 1) := dk_27 (dk_at dksX0_performAll_0 3 rfl rfl)
theorem dX0_performAll_4 : decode cX0_performAll 4 = .ok (.if_icmp .ge 30, 3) := dk_162 0 30 (dk_at dksX0_performAll_0 4 rfl rfl)
theorem dX0_performAll_7 : decode cX0_performAll 7 = .ok (.aload_n 0, 1) := dk_42 (dk_at dksX0_performAll_0 7 rfl rfl)
theorem dX0_performAll_8 : decode cX0_performAll 8 = .ok (.iload_n 2, 1) := dk_28 (dk_at dksX0_performAll_0 8 rfl rfl)
theorem dX0_performAll_9 : decode cX0_performAll 9 = .ok (.invokevirtual 494, 3) := dk_182 1 238 (dk_at dksX0_performAll_0 9 rfl rfl)
theorem dX0_performAll_12 : decode cX0_performAll 12 = .ok (.ifCond .ge 16, 3) := dk_156 0 16 (dk_at dksX0_performAll_0 12 rfl rfl)
theorem dX0_performAll_15 : decode cX0_performAll 15 = .ok (.new 439, 3) := dk_187 1 183 (dk_at dksX0_performAll_0 15 rfl rfl)
theorem dX0_performAll_18 : decode cX0_performAll 18 = .ok (.dup, 1) := dk_89 (dk_at dksX0_performAll_0 18 rfl rfl)
theorem dX0_performAll_19 : decode cX0_performAll 19 = .ok (.sipush (-300), 3) := dk_17 254 212 (dk_at dksX0_performAll_0 19 rfl rfl)
theorem dX0_performAll_22 : decode cX0_performAll 22 = .ok (.iload_n 2, 1) := dk_28 (dk_at dksX0_performAll_0 22 rfl rfl)
theorem dX0_performAll_23 : decode cX0_performAll 23 = .ok (.isub, 1) := dk_100 (dk_at dksX0_performAll_0 23 rfl rfl)
theorem dX0_performAll_24 : decode cX0_performAll 24 = .ok (.invokespecial 441, 3) := dk_183 1 185 (dk_at dksX0_performAll_1 0 rfl rfl)
theorem dX0_performAll_27 : decode cX0_performAll 27 = .ok (.athrow, 1) := dk_191 (dk_at dksX0_performAll_1 3 rfl rfl)
theorem dX0_performAll_28 : decode cX0_performAll 28 = .ok (.iinc 2 1, 3) := dk_132 2 1 (dk_at dksX0_performAll_1 4 rfl rfl)
theorem dX0_performAll_31 : decode cX0_performAll 31 = .ok (.goto (-29), 3) := dk_167 255 227 (dk_at dksX0_performAll_1 7 rfl rfl)
theorem dX0_performAll_34 : decode cX0_performAll 34 = .ok (.return_, 1) := dk_177 (dk_at dksX0_performAll_1 10 rfl rfl)
abbrev cX0_perform : ByteArray := prog_1_method_98_code
def yX0_perform : MethodName := ⟨RX0, "perform", "(I)I"⟩
def dkwX0_perform_14 : List UInt8 := [182, 1, 231, 172, 42, 182, 1, 234, 172, 42, 182, 1, 236, 172]
abbrev dktX0_perform_14 : List UInt8 := dkwX0_perform_14 ++ []
def dkwX0_perform_13 : List UInt8 := [42, 28, 29, 182, 1, 224, 172, 42, 28, 29, 182, 1, 226, 172, 42, 28, 182, 1, 229, 172, 42, 28, 29]
abbrev dktX0_perform_13 : List UInt8 := dkwX0_perform_13 ++ dktX0_perform_14
def dkwX0_perform_12 : List UInt8 := [182, 1, 213, 172, 42, 28, 182, 1, 217, 172, 42, 28, 29, 182, 1, 220, 172, 42, 28, 29, 182, 1, 222, 172]
abbrev dktX0_perform_12 : List UInt8 := dkwX0_perform_12 ++ dktX0_perform_13
def dkwX0_perform_11 : List UInt8 := [42, 28, 29, 42, 180, 0, 59, 7, 27, 104, 5, 96, 46, 42, 180, 0, 59, 7, 27, 104, 6, 96, 46]
abbrev dktX0_perform_11 : List UInt8 := dkwX0_perform_11 ++ dktX0_perform_12
def dkwX0_perform_10 : List UInt8 := [170, 0, 0, 0, 128, 0, 0, 0, 0, 0, 0, 0, 8, 0, 0, 0, 49, 0, 0, 0, 76, 0, 0, 0, 82, 0, 0, 0, 89, 0, 0, 0, 96, 0, 0, 0, 103, 0, 0, 0, 110, 0, 0, 0, 116, 0, 0, 0, 123]
abbrev dktX0_perform_10 : List UInt8 := dkwX0_perform_10 ++ dktX0_perform_11
def dkwX0_perform_9 : List UInt8 := [19, 1, 175, 182, 1, 159, 153, 0, 7, 16, 8, 54, 5, 21, 5]
abbrev dktX0_perform_9 : List UInt8 := dkwX0_perform_9 ++ dktX0_perform_10
def dkwX0_perform_8 : List UInt8 := [167, 0, 36, 25, 4, 19, 1, 170, 182, 1, 159, 153, 0, 25, 16, 7, 54, 5, 167, 0, 18, 25, 4]
abbrev dktX0_perform_8 : List UInt8 := dkwX0_perform_8 ++ dktX0_perform_9
def dkwX0_perform_7 : List UInt8 := [153, 0, 60, 8, 54, 5, 167, 0, 54, 25, 4, 19, 1, 173, 182, 1, 159, 153, 0, 43, 16, 6, 54, 5]
abbrev dktX0_perform_7 : List UInt8 := dkwX0_perform_7 ++ dktX0_perform_8
def dkwX0_perform_6 : List UInt8 := [19, 1, 166, 182, 1, 159, 153, 0, 77, 7, 54, 5, 167, 0, 71, 25, 4, 19, 1, 168, 182, 1, 159]
abbrev dktX0_perform_6 : List UInt8 := dkwX0_perform_6 ++ dktX0_perform_7
def dkwX0_perform_5 : List UInt8 := [54, 5, 167, 0, 105, 25, 4, 19, 1, 164, 182, 1, 159, 153, 0, 94, 6, 54, 5, 167, 0, 88, 25, 4]
abbrev dktX0_perform_5 : List UInt8 := dkwX0_perform_5 ++ dktX0_perform_6
def dkwX0_perform_4 : List UInt8 := [182, 1, 159, 153, 0, 128, 4, 54, 5, 167, 0, 122, 25, 4, 19, 1, 162, 182, 1, 159, 153, 0, 111, 5]
abbrev dktX0_perform_4 : List UInt8 := dkwX0_perform_4 ++ dktX0_perform_5
def dkwX0_perform_3 : List UInt8 := [25, 4, 19, 1, 157, 182, 1, 159, 153, 0, 145, 3, 54, 5, 167, 0, 139, 25, 4, 19, 1, 172]
abbrev dktX0_perform_3 : List UInt8 := dkwX0_perform_3 ++ dktX0_perform_4
def dkwX0_perform_2 : List UInt8 := [171, 0, 0, 0, 0, 0, 0, 237, 0, 0, 0, 9, 174, 122, 46, 122, 0, 0, 0, 186, 0, 1, 140, 115, 0, 0, 0, 118, 0, 1, 162, 14, 0, 0, 0, 84, 0, 46, 185, 97, 0, 0, 0, 101, 0, 47, 46, 239, 0, 0, 0, 152, 0, 50, 146, 166, 0, 0, 0, 169, 0, 52, 98, 218, 0, 0, 0, 222, 0, 53, 104, 248, 0, 0, 0, 135, 0, 53, 150, 252, 0, 0, 0, 204]
abbrev dktX0_perform_2 : List UInt8 := dkwX0_perform_2 ++ dktX0_perform_3
def dkwX0_perform_1 : List UInt8 := [27, 50, 58, 4, 2, 54, 5, 25, 4, 182, 1, 154]
abbrev dktX0_perform_1 : List UInt8 := dkwX0_perform_1 ++ dktX0_perform_2
def dkwX0_perform_0 : List UInt8 := [42, 180, 0, 59, 7, 27, 104, 46, 61, 42, 180, 0, 59, 7, 27, 104, 4, 96, 46, 62, 42, 180, 0, 55]
abbrev dktX0_perform_0 : List UInt8 := dkwX0_perform_0 ++ dktX0_perform_1
theorem dksX0_perform_0 : cX0_perform.data.toList.drop 0 = dktX0_perform_0 := by decide +kernel
theorem dksX0_perform_1 : cX0_perform.data.toList.drop 24 = dktX0_perform_1 := dk_seg dksX0_perform_0 24 rfl rfl
theorem dksX0_perform_2 : cX0_perform.data.toList.drop 36 = dktX0_perform_2 := dk_seg dksX0_perform_1 12 rfl rfl
theorem dksX0_perform_3 : cX0_perform.data.toList.drop 120 = dktX0_perform_3 := dk_seg dksX0_perform_2 84 rfl rfl
theorem dksX0_perform_4 : cX0_perform.data.toList.drop 142 = dktX0_perform_4 := dk_seg dksX0_perform_3 22 rfl rfl
theorem dksX0_perform_5 : cX0_perform.data.toList.drop 166 = dktX0_perform_5 := dk_seg dksX0_perform_4 24 rfl rfl
theorem dksX0_perform_6 : cX0_perform.data.toList.drop 190 = dktX0_perform_6 := dk_seg dksX0_perform_5 24 rfl rfl
theorem dksX0_perform_7 : cX0_perform.data.toList.drop 213 = dktX0_perform_7 := dk_seg dksX0_perform_6 23 rfl rfl
theorem dksX0_perform_8 : cX0_perform.data.toList.drop 237 = dktX0_perform_8 := dk_seg dksX0_perform_7 24 rfl rfl
theorem dksX0_perform_9 : cX0_perform.data.toList.drop 260 = dktX0_perform_9 := dk_seg dksX0_perform_8 23 rfl rfl
theorem dksX0_perform_10 : cX0_perform.data.toList.drop 275 = dktX0_perform_10 := dk_seg dksX0_perform_9 15 rfl rfl
theorem dksX0_perform_11 : cX0_perform.data.toList.drop 324 = dktX0_perform_11 := dk_seg dksX0_perform_10 49 rfl rfl
theorem dksX0_perform_12 : cX0_perform.data.toList.drop 347 = dktX0_perform_12 := dk_seg dksX0_perform_11 23 rfl rfl
theorem dksX0_perform_13 : cX0_perform.data.toList.drop 371 = dktX0_perform_13 := dk_seg dksX0_perform_12 24 rfl rfl
theorem dksX0_perform_14 : cX0_perform.data.toList.drop 394 = dktX0_perform_14 := dk_seg dksX0_perform_13 23 rfl rfl
theorem dX0_perform_0 : decode cX0_perform 0 = .ok (.aload_n 0, 1) := dk_42 (dk_at dksX0_perform_0 0 rfl rfl)
theorem dX0_perform_1 : decode cX0_perform 1 = .ok (.getfield 59, 3) := dk_180 0 59 (dk_at dksX0_perform_0 1 rfl rfl)
theorem dX0_perform_4 : decode cX0_perform 4 = .ok (.iconst 4, 1) := dk_7 (dk_at dksX0_perform_0 4 rfl rfl)
theorem dX0_perform_5 : decode cX0_perform 5 = .ok (.iload_n 1, 1) := dk_27 (dk_at dksX0_perform_0 5 rfl rfl)
theorem dX0_perform_6 : decode cX0_perform 6 = .ok (.imul, 1) := dk_104 (dk_at dksX0_perform_0 6 rfl rfl)
theorem dX0_perform_7 : decode cX0_perform 7 = .ok (.iaload, 1) := dk_46 (dk_at dksX0_perform_0 7 rfl rfl)
theorem dX0_perform_8 : decode cX0_perform 8 = .ok (.istore_n 2, 1) := dk_61 (dk_at dksX0_perform_0 8 rfl rfl)
theorem dX0_perform_9 : decode cX0_perform 9 = .ok (.aload_n 0, 1) := dk_42 (dk_at dksX0_perform_0 9 rfl rfl)
theorem dX0_perform_10 : decode cX0_perform 10 = .ok (.getfield 59, 3) := dk_180 0 59 (dk_at dksX0_perform_0 10 rfl rfl)
theorem dX0_perform_13 : decode cX0_perform 13 = .ok (.iconst 4, 1) := dk_7 (dk_at dksX0_perform_0 13 rfl rfl)
theorem dX0_perform_14 : decode cX0_perform 14 = .ok (.iload_n 1, 1) := dk_27 (dk_at dksX0_perform_0 14 rfl rfl)
theorem dX0_perform_15 : decode cX0_perform 15 = .ok (.imul, 1) := dk_104 (dk_at dksX0_perform_0 15 rfl rfl)
theorem dX0_perform_16 : decode cX0_perform 16 = .ok (.iconst 1, 1) := dk_4 (dk_at dksX0_perform_0 16 rfl rfl)
theorem dX0_perform_17 : decode cX0_perform 17 = .ok (.iadd, 1) := dk_96 (dk_at dksX0_perform_0 17 rfl rfl)
theorem dX0_perform_18 : decode cX0_perform 18 = .ok (.iaload, 1) := dk_46 (dk_at dksX0_perform_0 18 rfl rfl)
theorem dX0_perform_19 : decode cX0_perform 19 = .ok (.istore_n 3, 1) := dk_62 (dk_at dksX0_perform_0 19 rfl rfl)
theorem dX0_perform_20 : decode cX0_perform 20 = .ok (.aload_n 0, 1) := dk_42 (dk_at dksX0_perform_0 20 rfl rfl)
theorem dX0_perform_21 : decode cX0_perform 21 = .ok (.getfield 55, 3) := dk_180 0 55 (dk_at dksX0_perform_0 21 rfl rfl)
theorem dX0_perform_24 : decode cX0_perform 24 = .ok (.iload_n 1, 1) := dk_27 (dk_at dksX0_perform_1 0 rfl rfl)
theorem dX0_perform_25 : decode cX0_perform 25 = .ok (.aaload, 1) := dk_50 (dk_at dksX0_perform_1 1 rfl rfl)
theorem dX0_perform_26 : decode cX0_perform 26 = .ok (.astore 4, 2) := dk_58 4 (dk_at dksX0_perform_1 2 rfl rfl)
theorem dX0_perform_28 : decode cX0_perform 28 = .ok (.iconst (-1), 1) := dk_2 (dk_at dksX0_perform_1 4 rfl rfl)
theorem dX0_perform_29 : decode cX0_perform 29 = .ok (.istore 5, 2) := dk_54 5 (dk_at dksX0_perform_1 5 rfl rfl)
theorem dX0_perform_31 : decode cX0_perform 31 = .ok (.aload 4, 2) := dk_25 4 (dk_at dksX0_perform_1 7 rfl rfl)
theorem dX0_perform_33 : decode cX0_perform 33 = .ok (.invokevirtual 410, 3) := dk_182 1 154 (dk_at dksX0_perform_1 9 rfl rfl)
theorem dX0_perform_36 : decode cX0_perform 36 = .ok (.lookupswitch 237 #[(-1367724422, 186), (101491, 118), (107022, 84), (3062113, 101), (3092207, 152), (3314342, 169), (3433178, 222), (3500280, 135), (3512060, 204)], 84) := by decide +kernel
theorem dX0_perform_120 : decode cX0_perform 120 = .ok (.aload 4, 2) := dk_25 4 (dk_at dksX0_perform_3 0 rfl rfl)
theorem dX0_perform_122 : decode cX0_perform 122 = .ok (.ldc_w 413, 3) := dk_19 1 157 (dk_at dksX0_perform_3 2 rfl rfl)
theorem dX0_perform_125 : decode cX0_perform 125 = .ok (.invokevirtual 415, 3) := dk_182 1 159 (dk_at dksX0_perform_3 5 rfl rfl)
theorem dX0_perform_128 : decode cX0_perform 128 = .ok (.ifCond .eq 145, 3) := dk_153 0 145 (dk_at dksX0_perform_3 8 rfl rfl)
theorem dX0_perform_131 : decode cX0_perform 131 = .ok (.iconst 0, 1) := dk_3 (dk_at dksX0_perform_3 11 rfl rfl)
theorem dX0_perform_132 : decode cX0_perform 132 = .ok (.istore 5, 2) := dk_54 5 (dk_at dksX0_perform_3 12 rfl rfl)
theorem dX0_perform_134 : decode cX0_perform 134 = .ok (.goto 139, 3) := dk_167 0 139 (dk_at dksX0_perform_3 14 rfl rfl)
theorem dX0_perform_137 : decode cX0_perform 137 = .ok (.aload 4, 2) := dk_25 4 (dk_at dksX0_perform_3 17 rfl rfl)
theorem dX0_perform_139 : decode cX0_perform 139 = .ok (.ldc_w 428, 3) := dk_19 1 172 (dk_at dksX0_perform_3 19 rfl rfl)
theorem dX0_perform_142 : decode cX0_perform 142 = .ok (.invokevirtual 415, 3) := dk_182 1 159 (dk_at dksX0_perform_4 0 rfl rfl)
theorem dX0_perform_145 : decode cX0_perform 145 = .ok (.ifCond .eq 128, 3) := dk_153 0 128 (dk_at dksX0_perform_4 3 rfl rfl)
theorem dX0_perform_148 : decode cX0_perform 148 = .ok (.iconst 1, 1) := dk_4 (dk_at dksX0_perform_4 6 rfl rfl)
theorem dX0_perform_149 : decode cX0_perform 149 = .ok (.istore 5, 2) := dk_54 5 (dk_at dksX0_perform_4 7 rfl rfl)
theorem dX0_perform_151 : decode cX0_perform 151 = .ok (.goto 122, 3) := dk_167 0 122 (dk_at dksX0_perform_4 9 rfl rfl)
theorem dX0_perform_154 : decode cX0_perform 154 = .ok (.aload 4, 2) := dk_25 4 (dk_at dksX0_perform_4 12 rfl rfl)
theorem dX0_perform_156 : decode cX0_perform 156 = .ok (.ldc_w 418, 3) := dk_19 1 162 (dk_at dksX0_perform_4 14 rfl rfl)
theorem dX0_perform_159 : decode cX0_perform 159 = .ok (.invokevirtual 415, 3) := dk_182 1 159 (dk_at dksX0_perform_4 17 rfl rfl)
theorem dX0_perform_162 : decode cX0_perform 162 = .ok (.ifCond .eq 111, 3) := dk_153 0 111 (dk_at dksX0_perform_4 20 rfl rfl)
theorem dX0_perform_165 : decode cX0_perform 165 = .ok (.iconst 2, 1) := dk_5 (dk_at dksX0_perform_4 23 rfl rfl)
theorem dX0_perform_166 : decode cX0_perform 166 = .ok (.istore 5, 2) := dk_54 5 (dk_at dksX0_perform_5 0 rfl rfl)
theorem dX0_perform_168 : decode cX0_perform 168 = .ok (.goto 105, 3) := dk_167 0 105 (dk_at dksX0_perform_5 2 rfl rfl)
theorem dX0_perform_171 : decode cX0_perform 171 = .ok (.aload 4, 2) := dk_25 4 (dk_at dksX0_perform_5 5 rfl rfl)
theorem dX0_perform_173 : decode cX0_perform 173 = .ok (.ldc_w 420, 3) := dk_19 1 164 (dk_at dksX0_perform_5 7 rfl rfl)
theorem dX0_perform_176 : decode cX0_perform 176 = .ok (.invokevirtual 415, 3) := dk_182 1 159 (dk_at dksX0_perform_5 10 rfl rfl)
theorem dX0_perform_179 : decode cX0_perform 179 = .ok (.ifCond .eq 94, 3) := dk_153 0 94 (dk_at dksX0_perform_5 13 rfl rfl)
theorem dX0_perform_182 : decode cX0_perform 182 = .ok (.iconst 3, 1) := dk_6 (dk_at dksX0_perform_5 16 rfl rfl)
theorem dX0_perform_183 : decode cX0_perform 183 = .ok (.istore 5, 2) := dk_54 5 (dk_at dksX0_perform_5 17 rfl rfl)
theorem dX0_perform_185 : decode cX0_perform 185 = .ok (.goto 88, 3) := dk_167 0 88 (dk_at dksX0_perform_5 19 rfl rfl)
theorem dX0_perform_188 : decode cX0_perform 188 = .ok (.aload 4, 2) := dk_25 4 (dk_at dksX0_perform_5 22 rfl rfl)
theorem dX0_perform_190 : decode cX0_perform 190 = .ok (.ldc_w 422, 3) := dk_19 1 166 (dk_at dksX0_perform_6 0 rfl rfl)
theorem dX0_perform_193 : decode cX0_perform 193 = .ok (.invokevirtual 415, 3) := dk_182 1 159 (dk_at dksX0_perform_6 3 rfl rfl)
theorem dX0_perform_196 : decode cX0_perform 196 = .ok (.ifCond .eq 77, 3) := dk_153 0 77 (dk_at dksX0_perform_6 6 rfl rfl)
theorem dX0_perform_199 : decode cX0_perform 199 = .ok (.iconst 4, 1) := dk_7 (dk_at dksX0_perform_6 9 rfl rfl)
theorem dX0_perform_200 : decode cX0_perform 200 = .ok (.istore 5, 2) := dk_54 5 (dk_at dksX0_perform_6 10 rfl rfl)
theorem dX0_perform_202 : decode cX0_perform 202 = .ok (.goto 71, 3) := dk_167 0 71 (dk_at dksX0_perform_6 12 rfl rfl)
theorem dX0_perform_205 : decode cX0_perform 205 = .ok (.aload 4, 2) := dk_25 4 (dk_at dksX0_perform_6 15 rfl rfl)
theorem dX0_perform_207 : decode cX0_perform 207 = .ok (.ldc_w 424, 3) := dk_19 1 168 (dk_at dksX0_perform_6 17 rfl rfl)
theorem dX0_perform_210 : decode cX0_perform 210 = .ok (.invokevirtual 415, 3) := dk_182 1 159 (dk_at dksX0_perform_6 20 rfl rfl)
theorem dX0_perform_213 : decode cX0_perform 213 = .ok (.ifCond .eq 60, 3) := dk_153 0 60 (dk_at dksX0_perform_7 0 rfl rfl)
theorem dX0_perform_216 : decode cX0_perform 216 = .ok (.iconst 5, 1) := dk_8 (dk_at dksX0_perform_7 3 rfl rfl)
theorem dX0_perform_217 : decode cX0_perform 217 = .ok (.istore 5, 2) := dk_54 5 (dk_at dksX0_perform_7 4 rfl rfl)
theorem dX0_perform_219 : decode cX0_perform 219 = .ok (.goto 54, 3) := dk_167 0 54 (dk_at dksX0_perform_7 6 rfl rfl)
theorem dX0_perform_222 : decode cX0_perform 222 = .ok (.aload 4, 2) := dk_25 4 (dk_at dksX0_perform_7 9 rfl rfl)
theorem dX0_perform_224 : decode cX0_perform 224 = .ok (.ldc_w 429, 3) := dk_19 1 173 (dk_at dksX0_perform_7 11 rfl rfl)
theorem dX0_perform_227 : decode cX0_perform 227 = .ok (.invokevirtual 415, 3) := dk_182 1 159 (dk_at dksX0_perform_7 14 rfl rfl)
theorem dX0_perform_230 : decode cX0_perform 230 = .ok (.ifCond .eq 43, 3) := dk_153 0 43 (dk_at dksX0_perform_7 17 rfl rfl)
theorem dX0_perform_233 : decode cX0_perform 233 = .ok (.bipush 6, 2) := dk_16 6 (dk_at dksX0_perform_7 20 rfl rfl)
theorem dX0_perform_235 : decode cX0_perform 235 = .ok (.istore 5, 2) := dk_54 5 (dk_at dksX0_perform_7 22 rfl rfl)
theorem dX0_perform_237 : decode cX0_perform 237 = .ok (.goto 36, 3) := dk_167 0 36 (dk_at dksX0_perform_8 0 rfl rfl)
theorem dX0_perform_240 : decode cX0_perform 240 = .ok (.aload 4, 2) := dk_25 4 (dk_at dksX0_perform_8 3 rfl rfl)
theorem dX0_perform_242 : decode cX0_perform 242 = .ok (.ldc_w 426, 3) := dk_19 1 170 (dk_at dksX0_perform_8 5 rfl rfl)
theorem dX0_perform_245 : decode cX0_perform 245 = .ok (.invokevirtual 415, 3) := dk_182 1 159 (dk_at dksX0_perform_8 8 rfl rfl)
theorem dX0_perform_248 : decode cX0_perform 248 = .ok (.ifCond .eq 25, 3) := dk_153 0 25 (dk_at dksX0_perform_8 11 rfl rfl)
theorem dX0_perform_251 : decode cX0_perform 251 = .ok (.bipush 7, 2) := dk_16 7 (dk_at dksX0_perform_8 14 rfl rfl)
theorem dX0_perform_253 : decode cX0_perform 253 = .ok (.istore 5, 2) := dk_54 5 (dk_at dksX0_perform_8 16 rfl rfl)
theorem dX0_perform_255 : decode cX0_perform 255 = .ok (.goto 18, 3) := dk_167 0 18 (dk_at dksX0_perform_8 18 rfl rfl)
theorem dX0_perform_258 : decode cX0_perform 258 = .ok (.aload 4, 2) := dk_25 4 (dk_at dksX0_perform_8 21 rfl rfl)
theorem dX0_perform_260 : decode cX0_perform 260 = .ok (.ldc_w 431, 3) := dk_19 1 175 (dk_at dksX0_perform_9 0 rfl rfl)
theorem dX0_perform_263 : decode cX0_perform 263 = .ok (.invokevirtual 415, 3) := dk_182 1 159 (dk_at dksX0_perform_9 3 rfl rfl)
theorem dX0_perform_266 : decode cX0_perform 266 = .ok (.ifCond .eq 7, 3) := dk_153 0 7 (dk_at dksX0_perform_9 6 rfl rfl)
theorem dX0_perform_269 : decode cX0_perform 269 = .ok (.bipush 8, 2) := dk_16 8 (dk_at dksX0_perform_9 9 rfl rfl)
theorem dX0_perform_271 : decode cX0_perform 271 = .ok (.istore 5, 2) := dk_54 5 (dk_at dksX0_perform_9 11 rfl rfl)
theorem dX0_perform_273 : decode cX0_perform 273 = .ok (.iload 5, 2) := dk_21 5 (dk_at dksX0_perform_9 13 rfl rfl)
theorem dX0_perform_275 : decode cX0_perform 275 = .ok (.tableswitch 128 0 8 #[49, 76, 82, 89, 96, 103, 110, 116, 123], 49) := by decide +kernel
theorem dX0_perform_324 : decode cX0_perform 324 = .ok (.aload_n 0, 1) := dk_42 (dk_at dksX0_perform_11 0 rfl rfl)
theorem dX0_perform_325 : decode cX0_perform 325 = .ok (.iload_n 2, 1) := dk_28 (dk_at dksX0_perform_11 1 rfl rfl)
theorem dX0_perform_326 : decode cX0_perform 326 = .ok (.iload_n 3, 1) := dk_29 (dk_at dksX0_perform_11 2 rfl rfl)
theorem dX0_perform_327 : decode cX0_perform 327 = .ok (.aload_n 0, 1) := dk_42 (dk_at dksX0_perform_11 3 rfl rfl)
theorem dX0_perform_328 : decode cX0_perform 328 = .ok (.getfield 59, 3) := dk_180 0 59 (dk_at dksX0_perform_11 4 rfl rfl)
theorem dX0_perform_331 : decode cX0_perform 331 = .ok (.iconst 4, 1) := dk_7 (dk_at dksX0_perform_11 7 rfl rfl)
theorem dX0_perform_332 : decode cX0_perform 332 = .ok (.iload_n 1, 1) := dk_27 (dk_at dksX0_perform_11 8 rfl rfl)
theorem dX0_perform_333 : decode cX0_perform 333 = .ok (.imul, 1) := dk_104 (dk_at dksX0_perform_11 9 rfl rfl)
theorem dX0_perform_334 : decode cX0_perform 334 = .ok (.iconst 2, 1) := dk_5 (dk_at dksX0_perform_11 10 rfl rfl)
theorem dX0_perform_335 : decode cX0_perform 335 = .ok (.iadd, 1) := dk_96 (dk_at dksX0_perform_11 11 rfl rfl)
theorem dX0_perform_336 : decode cX0_perform 336 = .ok (.iaload, 1) := dk_46 (dk_at dksX0_perform_11 12 rfl rfl)
theorem dX0_perform_337 : decode cX0_perform 337 = .ok (.aload_n 0, 1) := dk_42 (dk_at dksX0_perform_11 13 rfl rfl)
theorem dX0_perform_338 : decode cX0_perform 338 = .ok (.getfield 59, 3) := dk_180 0 59 (dk_at dksX0_perform_11 14 rfl rfl)
theorem dX0_perform_341 : decode cX0_perform 341 = .ok (.iconst 4, 1) := dk_7 (dk_at dksX0_perform_11 17 rfl rfl)
theorem dX0_perform_342 : decode cX0_perform 342 = .ok (.iload_n 1, 1) := dk_27 (dk_at dksX0_perform_11 18 rfl rfl)
theorem dX0_perform_343 : decode cX0_perform 343 = .ok (.imul, 1) := dk_104 (dk_at dksX0_perform_11 19 rfl rfl)
theorem dX0_perform_344 : decode cX0_perform 344 = .ok (.iconst 3, 1) := dk_6 (dk_at dksX0_perform_11 20 rfl rfl)
theorem dX0_perform_345 : decode cX0_perform 345 = .ok (.iadd, 1) := dk_96 (dk_at dksX0_perform_11 21 rfl rfl)
theorem dX0_perform_346 : decode cX0_perform 346 = .ok (.iaload, 1) := dk_46 (dk_at dksX0_perform_11 22 rfl rfl)
theorem dX0_perform_347 : decode cX0_perform 347 = .ok (.invokevirtual 469, 3) := dk_182 1 213 (dk_at dksX0_perform_12 0 rfl rfl)
theorem dX0_perform_350 : decode cX0_perform 350 = .ok (.ireturn, 1) := dk_172 (dk_at dksX0_perform_12 3 rfl rfl)
theorem dX0_perform_351 : decode cX0_perform 351 = .ok (.aload_n 0, 1) := dk_42 (dk_at dksX0_perform_12 4 rfl rfl)
theorem dX0_perform_352 : decode cX0_perform 352 = .ok (.iload_n 2, 1) := dk_28 (dk_at dksX0_perform_12 5 rfl rfl)
theorem dX0_perform_353 : decode cX0_perform 353 = .ok (.invokevirtual 473, 3) := dk_182 1 217 (dk_at dksX0_perform_12 6 rfl rfl)
theorem dX0_perform_356 : decode cX0_perform 356 = .ok (.ireturn, 1) := dk_172 (dk_at dksX0_perform_12 9 rfl rfl)
theorem dX0_perform_357 : decode cX0_perform 357 = .ok (.aload_n 0, 1) := dk_42 (dk_at dksX0_perform_12 10 rfl rfl)
theorem dX0_perform_358 : decode cX0_perform 358 = .ok (.iload_n 2, 1) := dk_28 (dk_at dksX0_perform_12 11 rfl rfl)
theorem dX0_perform_359 : decode cX0_perform 359 = .ok (.iload_n 3, 1) := dk_29 (dk_at dksX0_perform_12 12 rfl rfl)
theorem dX0_perform_360 : decode cX0_perform 360 = .ok (.invokevirtual 476, 3) := dk_182 1 220 (dk_at dksX0_perform_12 13 rfl rfl)
theorem dX0_perform_363 : decode cX0_perform 363 = .ok (.ireturn, 1) := dk_172 (dk_at dksX0_perform_12 16 rfl rfl)
theorem dX0_perform_364 : decode cX0_perform 364 = .ok (.aload_n 0, 1) := dk_42 (dk_at dksX0_perform_12 17 rfl rfl)
theorem dX0_perform_365 : decode cX0_perform 365 = .ok (.iload_n 2, 1) := dk_28 (dk_at dksX0_perform_12 18 rfl rfl)
theorem dX0_perform_366 : decode cX0_perform 366 = .ok (.iload_n 3, 1) := dk_29 (dk_at dksX0_perform_12 19 rfl rfl)
theorem dX0_perform_367 : decode cX0_perform 367 = .ok (.invokevirtual 478, 3) := dk_182 1 222 (dk_at dksX0_perform_12 20 rfl rfl)
theorem dX0_perform_370 : decode cX0_perform 370 = .ok (.ireturn, 1) := dk_172 (dk_at dksX0_perform_12 23 rfl rfl)
theorem dX0_perform_371 : decode cX0_perform 371 = .ok (.aload_n 0, 1) := dk_42 (dk_at dksX0_perform_13 0 rfl rfl)
theorem dX0_perform_372 : decode cX0_perform 372 = .ok (.iload_n 2, 1) := dk_28 (dk_at dksX0_perform_13 1 rfl rfl)
theorem dX0_perform_373 : decode cX0_perform 373 = .ok (.iload_n 3, 1) := dk_29 (dk_at dksX0_perform_13 2 rfl rfl)
theorem dX0_perform_374 : decode cX0_perform 374 = .ok (.invokevirtual 480, 3) := dk_182 1 224 (dk_at dksX0_perform_13 3 rfl rfl)
theorem dX0_perform_377 : decode cX0_perform 377 = .ok (.ireturn, 1) := dk_172 (dk_at dksX0_perform_13 6 rfl rfl)
theorem dX0_perform_378 : decode cX0_perform 378 = .ok (.aload_n 0, 1) := dk_42 (dk_at dksX0_perform_13 7 rfl rfl)
theorem dX0_perform_379 : decode cX0_perform 379 = .ok (.iload_n 2, 1) := dk_28 (dk_at dksX0_perform_13 8 rfl rfl)
theorem dX0_perform_380 : decode cX0_perform 380 = .ok (.iload_n 3, 1) := dk_29 (dk_at dksX0_perform_13 9 rfl rfl)
theorem dX0_perform_381 : decode cX0_perform 381 = .ok (.invokevirtual 482, 3) := dk_182 1 226 (dk_at dksX0_perform_13 10 rfl rfl)
theorem dX0_perform_384 : decode cX0_perform 384 = .ok (.ireturn, 1) := dk_172 (dk_at dksX0_perform_13 13 rfl rfl)
theorem dX0_perform_385 : decode cX0_perform 385 = .ok (.aload_n 0, 1) := dk_42 (dk_at dksX0_perform_13 14 rfl rfl)
theorem dX0_perform_386 : decode cX0_perform 386 = .ok (.iload_n 2, 1) := dk_28 (dk_at dksX0_perform_13 15 rfl rfl)
theorem dX0_perform_387 : decode cX0_perform 387 = .ok (.invokevirtual 485, 3) := dk_182 1 229 (dk_at dksX0_perform_13 16 rfl rfl)
theorem dX0_perform_390 : decode cX0_perform 390 = .ok (.ireturn, 1) := dk_172 (dk_at dksX0_perform_13 19 rfl rfl)
theorem dX0_perform_391 : decode cX0_perform 391 = .ok (.aload_n 0, 1) := dk_42 (dk_at dksX0_perform_13 20 rfl rfl)
theorem dX0_perform_392 : decode cX0_perform 392 = .ok (.iload_n 2, 1) := dk_28 (dk_at dksX0_perform_13 21 rfl rfl)
theorem dX0_perform_393 : decode cX0_perform 393 = .ok (.iload_n 3, 1) := dk_29 (dk_at dksX0_perform_13 22 rfl rfl)
theorem dX0_perform_394 : decode cX0_perform 394 = .ok (.invokevirtual 487, 3) := dk_182 1 231 (dk_at dksX0_perform_14 0 rfl rfl)
theorem dX0_perform_397 : decode cX0_perform 397 = .ok (.ireturn, 1) := dk_172 (dk_at dksX0_perform_14 3 rfl rfl)
theorem dX0_perform_398 : decode cX0_perform 398 = .ok (.aload_n 0, 1) := dk_42 (dk_at dksX0_perform_14 4 rfl rfl)
theorem dX0_perform_399 : decode cX0_perform 399 = .ok (.invokevirtual 490, 3) := dk_182 1 234 (dk_at dksX0_perform_14 5 rfl rfl)
theorem dX0_perform_402 : decode cX0_perform 402 = .ok (.ireturn, 1) := dk_172 (dk_at dksX0_perform_14 8 rfl rfl)
theorem dX0_perform_403 : decode cX0_perform 403 = .ok (.aload_n 0, 1) := dk_42 (dk_at dksX0_perform_14 9 rfl rfl)
theorem dX0_perform_404 : decode cX0_perform 404 = .ok (.invokevirtual 492, 3) := dk_182 1 236 (dk_at dksX0_perform_14 10 rfl rfl)
theorem dX0_perform_407 : decode cX0_perform 407 = .ok (.ireturn, 1) := dk_172 (dk_at dksX0_perform_14 13 rfl rfl)
theorem q108 : (Jvm.Cond.initialized "CrewPairer") ∈ lw_all := lw_g (lw_at lw_m1 1 rfl) rfl
theorem q147 : (Jvm.Cond.instantiable "CrewPairer" (25 : Nat)) ∈ lw_all := lw_g (lw_at lw_m1 40 rfl) rfl
theorem q149 : (Jvm.Cond.instanceMethod ({ cls := "CrewPairer", name := "<init>", desc := "()V" } : Jvm.MethodName)) ∈ lw_all := lw_g (lw_at lw_m1 42 rfl) rfl
theorem q150 : (Jvm.Cond.code ({ cls := "CrewPairer", name := "<init>", desc := "()V" } : Jvm.MethodName) prog_1_method_2_code (1 : Nat) (Option.none : Option Jvm.ClassFile.FieldType)) ∈ lw_all := lw_g (lw_at lw_m1 43 rfl) rfl
theorem q151 : (Jvm.Cond.methodLink "CrewPairer" (1 : Nat) ({ cls := "java/lang/Object", name := "<init>", desc := "()V" } : Jvm.MethodName)) ∈ lw_all := lw_g (lw_at lw_m1 44 rfl) rfl
theorem q154 : (Jvm.Cond.classLink "CrewPairer" (7 : Nat) "CrewPairer$State") ∈ lw_all := lw_g (lw_at lw_m1 47 rfl) rfl
theorem q156 : (Jvm.Cond.methodLinkNest "CrewPairer" (9 : Nat) ({ cls := "CrewPairer$State", name := "<init>", desc := "()V" } : Jvm.MethodName) "CrewPairer") ∈ lw_tbl := lw_at lw_m1 49 rfl
theorem q187 : (Jvm.Cond.fieldLinkNest "CrewPairer" (62 : Nat) "CrewPairer$State" "legs" "Ljava/util/ArrayList;" "CrewPairer") ∈ lw_tbl := lw_at lw_m1 80 rfl
theorem q189 : (Jvm.Cond.fieldLinkNest "CrewPairer" (76 : Nat) "CrewPairer$State" "crews" "Ljava/util/ArrayList;" "CrewPairer") ∈ lw_tbl := lw_at lw_m1 82 rfl
theorem q191 : (Jvm.Cond.fieldLinkNest "CrewPairer" (190 : Nat) "CrewPairer$State" "rules" "[I" "CrewPairer") ∈ lw_tbl := lw_at lw_m1 84 rfl
theorem q201 : (Jvm.Cond.classLink "CrewPairer" (46 : Nat) "java/lang/StringBuilder") ∈ lw_all := lw_g (lw_at lw_m1 94 rfl) rfl
theorem q203 : (Jvm.Cond.methodLink "CrewPairer" (48 : Nat) ({ cls := "java/lang/StringBuilder", name := "<init>", desc := "()V" } : Jvm.MethodName)) ∈ lw_all := lw_g (lw_at lw_m1 96 rfl) rfl
theorem q235 : (Jvm.Cond.classLink "CrewPairer" (53 : Nat) "java/lang/String") ∈ lw_all := lw_g (lw_at lw_m1 128 rfl) rfl
theorem q237 : (Jvm.Cond.fieldLink "CrewPairer" (10 : Nat) "CrewPairer" "state" "LCrewPairer$State;") ∈ lw_all := lw_g (lw_at lw_m1 130 rfl) rfl
theorem q238 : (Jvm.Cond.fieldLink "CrewPairer" (109 : Nat) "CrewPairer" "saved" "LCrewPairer$State;") ∈ lw_all := lw_g (lw_at lw_m1 131 rfl) rfl
theorem q239 : (Jvm.Cond.fieldLink "CrewPairer" (16 : Nat) "CrewPairer" "history" "[LCrewPairer$State;") ∈ lw_all := lw_g (lw_at lw_m1 132 rfl) rfl
theorem q240 : (Jvm.Cond.fieldLink "CrewPairer" (87 : Nat) "CrewPairer" "changes" "I") ∈ lw_all := lw_g (lw_at lw_m1 133 rfl) rfl
theorem q241 : (Jvm.Cond.fieldLink "CrewPairer" (97 : Nat) "CrewPairer" "isExecuting" "Z") ∈ lw_all := lw_g (lw_at lw_m1 134 rfl) rfl
theorem q242 : (Jvm.Cond.fieldLink "CrewPairer" (20 : Nat) "CrewPairer" "row" "[I") ∈ lw_all := lw_g (lw_at lw_m1 135 rfl) rfl
theorem q243 : (Jvm.Cond.fieldLink "CrewPairer" (24 : Nat) "CrewPairer" "dutyStarts" "[I") ∈ lw_all := lw_g (lw_at lw_m1 136 rfl) rfl
theorem q244 : (Jvm.Cond.fieldLink "CrewPairer" (27 : Nat) "CrewPairer" "rowFlies" "[Z") ∈ lw_all := lw_g (lw_at lw_m1 137 rfl) rfl
theorem q245 : (Jvm.Cond.fieldLink "CrewPairer" (202 : Nat) "CrewPairer" "rowItems" "I") ∈ lw_all := lw_g (lw_at lw_m1 138 rfl) rfl
theorem q246 : (Jvm.Cond.fieldLink "CrewPairer" (196 : Nat) "CrewPairer" "rowBase" "I") ∈ lw_all := lw_g (lw_at lw_m1 139 rfl) rfl
theorem q247 : (Jvm.Cond.fieldLink "CrewPairer" (214 : Nat) "CrewPairer" "duties" "I") ∈ lw_all := lw_g (lw_at lw_m1 140 rfl) rfl
theorem q248 : (Jvm.Cond.fieldLink "CrewPairer" (247 : Nat) "CrewPairer" "foundKind" "I") ∈ lw_all := lw_g (lw_at lw_m1 141 rfl) rfl
theorem q249 : (Jvm.Cond.fieldLink "CrewPairer" (250 : Nat) "CrewPairer" "foundPlace" "I") ∈ lw_all := lw_g (lw_at lw_m1 142 rfl) rfl
theorem q250 : (Jvm.Cond.fieldLink "CrewPairer" (31 : Nat) "CrewPairer" "open" "[I") ∈ lw_all := lw_g (lw_at lw_m1 143 rfl) rfl
theorem q251 : (Jvm.Cond.fieldLink "CrewPairer" (34 : Nat) "CrewPairer" "waiting" "[I") ∈ lw_all := lw_g (lw_at lw_m1 144 rfl) rfl
theorem q252 : (Jvm.Cond.fieldLink "CrewPairer" (37 : Nat) "CrewPairer" "removed" "[I") ∈ lw_all := lw_g (lw_at lw_m1 145 rfl) rfl
theorem q253 : (Jvm.Cond.fieldLink "CrewPairer" (364 : Nat) "CrewPairer" "removedCount" "I") ∈ lw_all := lw_g (lw_at lw_m1 146 rfl) rfl
theorem q254 : (Jvm.Cond.fieldLink "CrewPairer" (40 : Nat) "CrewPairer" "chosen" "[I") ∈ lw_all := lw_g (lw_at lw_m1 147 rfl) rfl
theorem q255 : (Jvm.Cond.fieldLink "CrewPairer" (43 : Nat) "CrewPairer" "best" "[I") ∈ lw_all := lw_g (lw_at lw_m1 148 rfl) rfl
theorem q256 : (Jvm.Cond.fieldLink "CrewPairer" (379 : Nat) "CrewPairer" "bestLength" "I") ∈ lw_all := lw_g (lw_at lw_m1 149 rfl) rfl
theorem q257 : (Jvm.Cond.fieldLink "CrewPairer" (376 : Nat) "CrewPairer" "bestSum" "I") ∈ lw_all := lw_g (lw_at lw_m1 150 rfl) rfl
theorem q258 : (Jvm.Cond.fieldLink "CrewPairer" (49 : Nat) "CrewPairer" "buffer" "Ljava/lang/StringBuilder;") ∈ lw_all := lw_g (lw_at lw_m1 151 rfl) rfl
theorem q259 : (Jvm.Cond.fieldLink "CrewPairer" (442 : Nat) "CrewPairer" "position" "I") ∈ lw_all := lw_g (lw_at lw_m1 152 rfl) rfl
theorem q260 : (Jvm.Cond.fieldLink "CrewPairer" (55 : Nat) "CrewPairer" "words" "[Ljava/lang/String;") ∈ lw_all := lw_g (lw_at lw_m1 153 rfl) rfl
theorem q261 : (Jvm.Cond.fieldLink "CrewPairer" (59 : Nat) "CrewPairer" "numbers" "[I") ∈ lw_all := lw_g (lw_at lw_m1 154 rfl) rfl
theorem q262 : (Jvm.Cond.lays "CrewPairer" "CrewPairer" "state" "LCrewPairer$State;") ∈ lw_all := lw_g (lw_at lw_m1 155 rfl) rfl
theorem q263 : (Jvm.Cond.soleField "CrewPairer" "state") ∈ lw_all := lw_g (lw_at lw_m1 156 rfl) rfl
theorem q264 : (Jvm.Cond.lays "CrewPairer" "CrewPairer" "saved" "LCrewPairer$State;") ∈ lw_all := lw_g (lw_at lw_m1 157 rfl) rfl
theorem q265 : (Jvm.Cond.soleField "CrewPairer" "saved") ∈ lw_all := lw_g (lw_at lw_m1 158 rfl) rfl
theorem q266 : (Jvm.Cond.laysFinal "CrewPairer" "CrewPairer" "history" "[LCrewPairer$State;") ∈ lw_all := lw_g (lw_at lw_m1 159 rfl) rfl
theorem q267 : (Jvm.Cond.soleField "CrewPairer" "history") ∈ lw_all := lw_g (lw_at lw_m1 160 rfl) rfl
theorem q268 : (Jvm.Cond.lays "CrewPairer" "CrewPairer" "changes" "I") ∈ lw_all := lw_g (lw_at lw_m1 161 rfl) rfl
theorem q269 : (Jvm.Cond.soleField "CrewPairer" "changes") ∈ lw_all := lw_g (lw_at lw_m1 162 rfl) rfl
theorem q270 : (Jvm.Cond.lays "CrewPairer" "CrewPairer" "isExecuting" "Z") ∈ lw_all := lw_g (lw_at lw_m1 163 rfl) rfl
theorem q271 : (Jvm.Cond.soleField "CrewPairer" "isExecuting") ∈ lw_all := lw_g (lw_at lw_m1 164 rfl) rfl
theorem q272 : (Jvm.Cond.laysFinal "CrewPairer" "CrewPairer" "row" "[I") ∈ lw_all := lw_g (lw_at lw_m1 165 rfl) rfl
theorem q273 : (Jvm.Cond.soleField "CrewPairer" "row") ∈ lw_all := lw_g (lw_at lw_m1 166 rfl) rfl
theorem q274 : (Jvm.Cond.laysFinal "CrewPairer" "CrewPairer" "dutyStarts" "[I") ∈ lw_all := lw_g (lw_at lw_m1 167 rfl) rfl
theorem q275 : (Jvm.Cond.soleField "CrewPairer" "dutyStarts") ∈ lw_all := lw_g (lw_at lw_m1 168 rfl) rfl
theorem q276 : (Jvm.Cond.laysFinal "CrewPairer" "CrewPairer" "rowFlies" "[Z") ∈ lw_all := lw_g (lw_at lw_m1 169 rfl) rfl
theorem q277 : (Jvm.Cond.soleField "CrewPairer" "rowFlies") ∈ lw_all := lw_g (lw_at lw_m1 170 rfl) rfl
theorem q278 : (Jvm.Cond.lays "CrewPairer" "CrewPairer" "rowItems" "I") ∈ lw_all := lw_g (lw_at lw_m1 171 rfl) rfl
theorem q279 : (Jvm.Cond.soleField "CrewPairer" "rowItems") ∈ lw_all := lw_g (lw_at lw_m1 172 rfl) rfl
theorem q280 : (Jvm.Cond.lays "CrewPairer" "CrewPairer" "rowBase" "I") ∈ lw_all := lw_g (lw_at lw_m1 173 rfl) rfl
theorem q281 : (Jvm.Cond.soleField "CrewPairer" "rowBase") ∈ lw_all := lw_g (lw_at lw_m1 174 rfl) rfl
theorem q282 : (Jvm.Cond.lays "CrewPairer" "CrewPairer" "duties" "I") ∈ lw_all := lw_g (lw_at lw_m1 175 rfl) rfl
theorem q283 : (Jvm.Cond.soleField "CrewPairer" "duties") ∈ lw_all := lw_g (lw_at lw_m1 176 rfl) rfl
theorem q284 : (Jvm.Cond.lays "CrewPairer" "CrewPairer" "foundKind" "I") ∈ lw_all := lw_g (lw_at lw_m1 177 rfl) rfl
theorem q285 : (Jvm.Cond.soleField "CrewPairer" "foundKind") ∈ lw_all := lw_g (lw_at lw_m1 178 rfl) rfl
theorem q286 : (Jvm.Cond.lays "CrewPairer" "CrewPairer" "foundPlace" "I") ∈ lw_all := lw_g (lw_at lw_m1 179 rfl) rfl
theorem q287 : (Jvm.Cond.soleField "CrewPairer" "foundPlace") ∈ lw_all := lw_g (lw_at lw_m1 180 rfl) rfl
theorem q288 : (Jvm.Cond.laysFinal "CrewPairer" "CrewPairer" "open" "[I") ∈ lw_all := lw_g (lw_at lw_m1 181 rfl) rfl
theorem q289 : (Jvm.Cond.soleField "CrewPairer" "open") ∈ lw_all := lw_g (lw_at lw_m1 182 rfl) rfl
theorem q290 : (Jvm.Cond.laysFinal "CrewPairer" "CrewPairer" "waiting" "[I") ∈ lw_all := lw_g (lw_at lw_m1 183 rfl) rfl
theorem q291 : (Jvm.Cond.soleField "CrewPairer" "waiting") ∈ lw_all := lw_g (lw_at lw_m1 184 rfl) rfl
theorem q292 : (Jvm.Cond.laysFinal "CrewPairer" "CrewPairer" "removed" "[I") ∈ lw_all := lw_g (lw_at lw_m1 185 rfl) rfl
theorem q293 : (Jvm.Cond.soleField "CrewPairer" "removed") ∈ lw_all := lw_g (lw_at lw_m1 186 rfl) rfl
theorem q294 : (Jvm.Cond.lays "CrewPairer" "CrewPairer" "removedCount" "I") ∈ lw_all := lw_g (lw_at lw_m1 187 rfl) rfl
theorem q295 : (Jvm.Cond.soleField "CrewPairer" "removedCount") ∈ lw_all := lw_g (lw_at lw_m1 188 rfl) rfl
theorem q296 : (Jvm.Cond.laysFinal "CrewPairer" "CrewPairer" "chosen" "[I") ∈ lw_all := lw_g (lw_at lw_m1 189 rfl) rfl
theorem q297 : (Jvm.Cond.soleField "CrewPairer" "chosen") ∈ lw_all := lw_g (lw_at lw_m1 190 rfl) rfl
theorem q298 : (Jvm.Cond.laysFinal "CrewPairer" "CrewPairer" "best" "[I") ∈ lw_all := lw_g (lw_at lw_m1 191 rfl) rfl
theorem q299 : (Jvm.Cond.soleField "CrewPairer" "best") ∈ lw_all := lw_g (lw_at lw_m1 192 rfl) rfl
theorem q300 : (Jvm.Cond.lays "CrewPairer" "CrewPairer" "bestLength" "I") ∈ lw_all := lw_g (lw_at lw_m1 193 rfl) rfl
theorem q301 : (Jvm.Cond.soleField "CrewPairer" "bestLength") ∈ lw_all := lw_g (lw_at lw_m1 194 rfl) rfl
theorem q302 : (Jvm.Cond.lays "CrewPairer" "CrewPairer" "bestSum" "I") ∈ lw_all := lw_g (lw_at lw_m1 195 rfl) rfl
theorem q303 : (Jvm.Cond.soleField "CrewPairer" "bestSum") ∈ lw_all := lw_g (lw_at lw_m1 196 rfl) rfl
theorem q304 : (Jvm.Cond.laysFinal "CrewPairer" "CrewPairer" "buffer" "Ljava/lang/StringBuilder;") ∈ lw_all := lw_g (lw_at lw_m1 197 rfl) rfl
theorem q305 : (Jvm.Cond.soleField "CrewPairer" "buffer") ∈ lw_all := lw_g (lw_at lw_m1 198 rfl) rfl
theorem q306 : (Jvm.Cond.lays "CrewPairer" "CrewPairer" "position" "I") ∈ lw_all := lw_g (lw_at lw_m1 199 rfl) rfl
theorem q307 : (Jvm.Cond.soleField "CrewPairer" "position") ∈ lw_all := lw_g (lw_at lw_m1 200 rfl) rfl
theorem q308 : (Jvm.Cond.laysFinal "CrewPairer" "CrewPairer" "words" "[Ljava/lang/String;") ∈ lw_all := lw_g (lw_at lw_m1 201 rfl) rfl
theorem q309 : (Jvm.Cond.soleField "CrewPairer" "words") ∈ lw_all := lw_g (lw_at lw_m1 202 rfl) rfl
theorem q310 : (Jvm.Cond.laysFinal "CrewPairer" "CrewPairer" "numbers" "[I") ∈ lw_all := lw_g (lw_at lw_m1 203 rfl) rfl
theorem q311 : (Jvm.Cond.soleField "CrewPairer" "numbers") ∈ lw_all := lw_g (lw_at lw_m1 204 rfl) rfl
theorem q312 : (Jvm.Cond.superclass "CrewPairer" "java/lang/Object") ∈ lw_all := lw_g (lw_at lw_m1 205 rfl) rfl
theorem q314 : (Jvm.Cond.instanceMethod ({ cls := "CrewPairer", name := "undo", desc := "()I" } : Jvm.MethodName)) ∈ lw_all := lw_g (lw_at lw_m1 207 rfl) rfl
theorem q315 : (Jvm.Cond.selects "CrewPairer" ({ cls := "CrewPairer", name := "undo", desc := "()I" } : Jvm.MethodName) ({ cls := "CrewPairer", name := "undo", desc := "()I" } : Jvm.MethodName)) ∈ lw_all := lw_g (lw_at lw_m1 208 rfl) rfl
theorem q316 : (Jvm.Cond.code ({ cls := "CrewPairer", name := "undo", desc := "()I" } : Jvm.MethodName) prog_1_method_9_code (1 : Nat) (Option.some Jvm.ClassFile.FieldType.int)) ∈ lw_all := lw_g (lw_at lw_m1 209 rfl) rfl
theorem q318 : (Jvm.Cond.instanceMethod ({ cls := "CrewPairer", name := "save", desc := "()I" } : Jvm.MethodName)) ∈ lw_all := lw_g (lw_at lw_m1 211 rfl) rfl
theorem q319 : (Jvm.Cond.selects "CrewPairer" ({ cls := "CrewPairer", name := "save", desc := "()I" } : Jvm.MethodName) ({ cls := "CrewPairer", name := "save", desc := "()I" } : Jvm.MethodName)) ∈ lw_all := lw_g (lw_at lw_m1 212 rfl) rfl
theorem q320 : (Jvm.Cond.code ({ cls := "CrewPairer", name := "save", desc := "()I" } : Jvm.MethodName) prog_1_method_10_code (1 : Nat) (Option.some Jvm.ClassFile.FieldType.int)) ∈ lw_all := lw_g (lw_at lw_m1 213 rfl) rfl
theorem q321 : (Jvm.Cond.methodLink "CrewPairer" (101 : Nat) ({ cls := "CrewPairer$State", name := "copy", desc := "()LCrewPairer$State;" } : Jvm.MethodName)) ∈ lw_all := lw_g (lw_at lw_m1 214 rfl) rfl
theorem q357 : (Jvm.Cond.fieldLinkNest "CrewPairer" (124 : Nat) "CrewPairer$Leg" "from" "I" "CrewPairer") ∈ lw_tbl := lw_at lw_m2 10 rfl
theorem q359 : (Jvm.Cond.fieldLinkNest "CrewPairer" (127 : Nat) "CrewPairer$Leg" "to" "I" "CrewPairer") ∈ lw_tbl := lw_at lw_m2 12 rfl
theorem q361 : (Jvm.Cond.fieldLinkNest "CrewPairer" (130 : Nat) "CrewPairer$Leg" "departure" "I" "CrewPairer") ∈ lw_tbl := lw_at lw_m2 14 rfl
theorem q363 : (Jvm.Cond.fieldLinkNest "CrewPairer" (181 : Nat) "CrewPairer$Leg" "arrival" "I" "CrewPairer") ∈ lw_tbl := lw_at lw_m2 16 rfl
theorem q365 : (Jvm.Cond.fieldLinkNest "CrewPairer" (171 : Nat) "CrewPairer$Leg" "isCancelled" "Z" "CrewPairer") ∈ lw_tbl := lw_at lw_m2 18 rfl
theorem q409 : (Jvm.Cond.selects "CrewPairer" ({ cls := "java/lang/Object", name := "getClass", desc := "()Ljava/lang/Class;" } : Jvm.MethodName) ({ cls := "java/lang/Object", name := "getClass", desc := "()Ljava/lang/Class;" } : Jvm.MethodName)) ∈ lw_all := lw_g (lw_at lw_m2 62 rfl) rfl
theorem q454 : (Jvm.Cond.fieldLinkNest "CrewPairer" (193 : Nat) "CrewPairer$Crew" "base" "I" "CrewPairer") ∈ lw_tbl := lw_at lw_m2 107 rfl
theorem q456 : (Jvm.Cond.fieldLinkNest "CrewPairer" (205 : Nat) "CrewPairer$Crew" "legs" "[I" "CrewPairer") ∈ lw_tbl := lw_at lw_m2 109 rfl
theorem q458 : (Jvm.Cond.fieldLinkNest "CrewPairer" (168 : Nat) "CrewPairer$Crew" "flies" "[Z" "CrewPairer") ∈ lw_tbl := lw_at lw_m2 111 rfl
theorem q460 : (Jvm.Cond.fieldLinkNest "CrewPairer" (199 : Nat) "CrewPairer$Crew" "items" "I" "CrewPairer") ∈ lw_tbl := lw_at lw_m2 113 rfl
theorem q462 : (Jvm.Cond.fieldLinkNest "CrewPairer" (310 : Nat) "CrewPairer$Crew" "start" "I" "CrewPairer") ∈ lw_tbl := lw_at lw_m2 115 rfl
theorem q464 : (Jvm.Cond.fieldLinkNest "CrewPairer" (313 : Nat) "CrewPairer$Crew" "end" "I" "CrewPairer") ∈ lw_tbl := lw_at lw_m2 117 rfl
theorem q480 : (Jvm.Cond.methodLink "CrewPairer" (66 : Nat) ({ cls := "java/util/ArrayList", name := "size", desc := "()I" } : Jvm.MethodName)) ∈ lw_all := lw_g (lw_at lw_m2 133 rfl) rfl
theorem q482 : (Jvm.Cond.instanceMethod ({ cls := "CrewPairer", name := "restore", desc := "()I" } : Jvm.MethodName)) ∈ lw_all := lw_g (lw_at lw_m2 135 rfl) rfl
theorem q483 : (Jvm.Cond.selects "CrewPairer" ({ cls := "CrewPairer", name := "restore", desc := "()I" } : Jvm.MethodName) ({ cls := "CrewPairer", name := "restore", desc := "()I" } : Jvm.MethodName)) ∈ lw_all := lw_g (lw_at lw_m2 136 rfl) rfl
theorem q484 : (Jvm.Cond.code ({ cls := "CrewPairer", name := "restore", desc := "()I" } : Jvm.MethodName) prog_1_method_11_code (1 : Nat) (Option.some Jvm.ClassFile.FieldType.int)) ∈ lw_all := lw_g (lw_at lw_m2 137 rfl) rfl
theorem q485 : (Jvm.Cond.methodLink "CrewPairer" (112 : Nat) ({ cls := "CrewPairer", name := "beginChange", desc := "()V" } : Jvm.MethodName)) ∈ lw_all := lw_g (lw_at lw_m2 138 rfl) rfl
theorem q486 : (Jvm.Cond.privateMethod ({ cls := "CrewPairer", name := "beginChange", desc := "()V" } : Jvm.MethodName)) ∈ lw_tbl := lw_at lw_m2 139 rfl
theorem q487 : (Jvm.Cond.instanceMethod ({ cls := "CrewPairer", name := "beginChange", desc := "()V" } : Jvm.MethodName)) ∈ lw_all := lw_g (lw_at lw_m2 140 rfl) rfl
theorem q488 : (Jvm.Cond.code ({ cls := "CrewPairer", name := "beginChange", desc := "()V" } : Jvm.MethodName) prog_1_method_8_code (1 : Nat) (Option.none : Option Jvm.ClassFile.FieldType)) ∈ lw_all := lw_g (lw_at lw_m2 141 rfl) rfl
theorem q489 : (Jvm.Cond.methodLink "CrewPairer" (105 : Nat) ({ cls := "CrewPairer", name := "keep", desc := "(LCrewPairer$State;)V" } : Jvm.MethodName)) ∈ lw_all := lw_g (lw_at lw_m2 142 rfl) rfl
theorem q490 : (Jvm.Cond.privateMethod ({ cls := "CrewPairer", name := "keep", desc := "(LCrewPairer$State;)V" } : Jvm.MethodName)) ∈ lw_tbl := lw_at lw_m2 143 rfl
theorem q491 : (Jvm.Cond.instanceMethod ({ cls := "CrewPairer", name := "keep", desc := "(LCrewPairer$State;)V" } : Jvm.MethodName)) ∈ lw_all := lw_g (lw_at lw_m2 144 rfl) rfl
theorem q492 : (Jvm.Cond.code ({ cls := "CrewPairer", name := "keep", desc := "(LCrewPairer$State;)V" } : Jvm.MethodName) prog_1_method_7_code (2 : Nat) (Option.none : Option Jvm.ClassFile.FieldType)) ∈ lw_all := lw_g (lw_at lw_m2 145 rfl) rfl
theorem q493 : (Jvm.Cond.methodLink "CrewPairer" (91 : Nat) ({ cls := "java/lang/System", name := "arraycopy", desc := "(Ljava/lang/Object;ILjava/lang/Object;II)V" } : Jvm.MethodName)) ∈ lw_all := lw_g (lw_at lw_m2 146 rfl) rfl
theorem q495 : (Jvm.Cond.instanceMethod ({ cls := "CrewPairer", name := "addLeg", desc := "(IIII)I" } : Jvm.MethodName)) ∈ lw_all := lw_g (lw_at lw_m2 148 rfl) rfl
theorem q496 : (Jvm.Cond.selects "CrewPairer" ({ cls := "CrewPairer", name := "addLeg", desc := "(IIII)I" } : Jvm.MethodName) ({ cls := "CrewPairer", name := "addLeg", desc := "(IIII)I" } : Jvm.MethodName)) ∈ lw_all := lw_g (lw_at lw_m2 149 rfl) rfl
theorem q497 : (Jvm.Cond.code ({ cls := "CrewPairer", name := "addLeg", desc := "(IIII)I" } : Jvm.MethodName) prog_1_method_13_code (6 : Nat) (Option.some Jvm.ClassFile.FieldType.int)) ∈ lw_all := lw_g (lw_at lw_m2 150 rfl) rfl
theorem q498 : (Jvm.Cond.methodLink "CrewPairer" (72 : Nat) ({ cls := "CrewPairer", name := "isBetween", desc := "(III)Z" } : Jvm.MethodName)) ∈ lw_all := lw_g (lw_at lw_m2 151 rfl) rfl
theorem q499 : (Jvm.Cond.static ({ cls := "CrewPairer", name := "isBetween", desc := "(III)Z" } : Jvm.MethodName)) ∈ lw_all := lw_g (lw_at lw_m2 152 rfl) rfl
theorem q500 : (Jvm.Cond.code ({ cls := "CrewPairer", name := "isBetween", desc := "(III)Z" } : Jvm.MethodName) prog_1_method_1_code (3 : Nat) (Option.some Jvm.ClassFile.FieldType.boolean)) ∈ lw_all := lw_g (lw_at lw_m2 153 rfl) rfl
theorem q501 : (Jvm.Cond.methodLink "CrewPairer" (140 : Nat) ({ cls := "java/lang/Math", name := "min", desc := "(II)I" } : Jvm.MethodName)) ∈ lw_all := lw_g (lw_at lw_m2 154 rfl) rfl
theorem q502 : (Jvm.Cond.methodLink "CrewPairer" (146 : Nat) ({ cls := "CrewPairer", name := "keysWithout", desc := "(I)Ljava/util/HashSet;" } : Jvm.MethodName)) ∈ lw_all := lw_g (lw_at lw_m2 155 rfl) rfl
theorem q503 : (Jvm.Cond.privateMethod ({ cls := "CrewPairer", name := "keysWithout", desc := "(I)Ljava/util/HashSet;" } : Jvm.MethodName)) ∈ lw_tbl := lw_at lw_m2 156 rfl
theorem q504 : (Jvm.Cond.instanceMethod ({ cls := "CrewPairer", name := "keysWithout", desc := "(I)Ljava/util/HashSet;" } : Jvm.MethodName)) ∈ lw_all := lw_g (lw_at lw_m2 157 rfl) rfl
theorem q505 : (Jvm.Cond.code ({ cls := "CrewPairer", name := "keysWithout", desc := "(I)Ljava/util/HashSet;" } : Jvm.MethodName) prog_1_method_12_code (5 : Nat) (Option.some (Jvm.ClassFile.FieldType.object "java/util/HashSet"))) ∈ lw_all := lw_g (lw_at lw_m2 158 rfl) rfl
theorem q506 : (Jvm.Cond.classLink "CrewPairer" (115 : Nat) "java/util/HashSet") ∈ lw_all := lw_g (lw_at lw_m2 159 rfl) rfl
theorem q508 : (Jvm.Cond.methodLink "CrewPairer" (117 : Nat) ({ cls := "java/util/HashSet", name := "<init>", desc := "()V" } : Jvm.MethodName)) ∈ lw_all := lw_g (lw_at lw_m2 161 rfl) rfl
theorem q551 : (Jvm.Cond.methodLink "CrewPairer" (118 : Nat) ({ cls := "CrewPairer", name := "legOf", desc := "(I)LCrewPairer$Leg;" } : Jvm.MethodName)) ∈ lw_all := lw_g (lw_at lw_m2 204 rfl) rfl
theorem q552 : (Jvm.Cond.privateMethod ({ cls := "CrewPairer", name := "legOf", desc := "(I)LCrewPairer$Leg;" } : Jvm.MethodName)) ∈ lw_tbl := lw_at lw_m2 205 rfl
theorem q553 : (Jvm.Cond.instanceMethod ({ cls := "CrewPairer", name := "legOf", desc := "(I)LCrewPairer$Leg;" } : Jvm.MethodName)) ∈ lw_all := lw_g (lw_at lw_m2 206 rfl) rfl
theorem q554 : (Jvm.Cond.code ({ cls := "CrewPairer", name := "legOf", desc := "(I)LCrewPairer$Leg;" } : Jvm.MethodName) prog_1_method_5_code (2 : Nat) (Option.some (Jvm.ClassFile.FieldType.object "CrewPairer$Leg"))) ∈ lw_all := lw_g (lw_at lw_m2 207 rfl) rfl
theorem q555 : (Jvm.Cond.methodLink "CrewPairer" (79 : Nat) ({ cls := "java/util/ArrayList", name := "get", desc := "(I)Ljava/lang/Object;" } : Jvm.MethodName)) ∈ lw_all := lw_g (lw_at lw_m2 208 rfl) rfl
theorem q556 : (Jvm.Cond.classLink "CrewPairer" (83 : Nat) "CrewPairer$Leg") ∈ lw_all := lw_g (lw_at lw_m2 209 rfl) rfl
theorem q557 : (Jvm.Cond.classLink "CrewPairer" (122 : Nat) "CrewPairer$LegKey") ∈ lw_all := lw_g (lw_at lw_m2 210 rfl) rfl
theorem q559 : (Jvm.Cond.methodLink "CrewPairer" (133 : Nat) ({ cls := "CrewPairer$LegKey", name := "<init>", desc := "(III)V" } : Jvm.MethodName)) ∈ lw_all := lw_g (lw_at lw_m2 212 rfl) rfl
theorem q573 : (Jvm.Cond.methodLink "CrewPairer" (136 : Nat) ({ cls := "java/util/HashSet", name := "add", desc := "(Ljava/lang/Object;)Z" } : Jvm.MethodName)) ∈ lw_all := lw_g (lw_at lw_m2 226 rfl) rfl
theorem q590 : (Jvm.Cond.selects "CrewPairer" ({ cls := "java/lang/Object", name := "hashCode", desc := "()I" } : Jvm.MethodName) ({ cls := "java/lang/Object", name := "hashCode", desc := "()I" } : Jvm.MethodName)) ∈ lw_all := lw_g (lw_at lw_m3 3 rfl) rfl
theorem q959 : (Jvm.Cond.selects "CrewPairer" ({ cls := "java/lang/Object", name := "equals", desc := "(Ljava/lang/Object;)Z" } : Jvm.MethodName) ({ cls := "java/lang/Object", name := "equals", desc := "(Ljava/lang/Object;)Z" } : Jvm.MethodName)) ∈ lw_all := lw_g (lw_at lw_m4 132 rfl) rfl
theorem q1048 : (Jvm.Cond.methodLink "CrewPairer" (150 : Nat) ({ cls := "java/util/HashSet", name := "contains", desc := "(Ljava/lang/Object;)Z" } : Jvm.MethodName)) ∈ lw_all := lw_g (lw_at lw_m4 221 rfl) rfl
theorem q1064 : (Jvm.Cond.methodLink "CrewPairer" (153 : Nat) ({ cls := "CrewPairer$Leg", name := "<init>", desc := "(IIII)V" } : Jvm.MethodName)) ∈ lw_all := lw_g (lw_at lw_m4 237 rfl) rfl
theorem q1065 : (Jvm.Cond.methodLink "CrewPairer" (156 : Nat) ({ cls := "java/util/ArrayList", name := "add", desc := "(Ljava/lang/Object;)Z" } : Jvm.MethodName)) ∈ lw_all := lw_g (lw_at lw_m4 238 rfl) rfl
theorem q1067 : (Jvm.Cond.instanceMethod ({ cls := "CrewPairer", name := "addCrew", desc := "(I)I" } : Jvm.MethodName)) ∈ lw_all := lw_g (lw_at lw_m5 0 rfl) rfl
theorem q1068 : (Jvm.Cond.selects "CrewPairer" ({ cls := "CrewPairer", name := "addCrew", desc := "(I)I" } : Jvm.MethodName) ({ cls := "CrewPairer", name := "addCrew", desc := "(I)I" } : Jvm.MethodName)) ∈ lw_all := lw_g (lw_at lw_m5 1 rfl) rfl
theorem q1069 : (Jvm.Cond.code ({ cls := "CrewPairer", name := "addCrew", desc := "(I)I" } : Jvm.MethodName) prog_1_method_14_code (2 : Nat) (Option.some Jvm.ClassFile.FieldType.int)) ∈ lw_all := lw_g (lw_at lw_m5 2 rfl) rfl
theorem q1070 : (Jvm.Cond.classLink "CrewPairer" (85 : Nat) "CrewPairer$Crew") ∈ lw_all := lw_g (lw_at lw_m5 3 rfl) rfl
theorem q1071 : (Jvm.Cond.methodLink "CrewPairer" (157 : Nat) ({ cls := "CrewPairer$Crew", name := "<init>", desc := "(I)V" } : Jvm.MethodName)) ∈ lw_all := lw_g (lw_at lw_m5 4 rfl) rfl
theorem q1073 : (Jvm.Cond.instanceMethod ({ cls := "CrewPairer", name := "legCount", desc := "()I" } : Jvm.MethodName)) ∈ lw_all := lw_g (lw_at lw_m5 6 rfl) rfl
theorem q1074 : (Jvm.Cond.selects "CrewPairer" ({ cls := "CrewPairer", name := "legCount", desc := "()I" } : Jvm.MethodName) ({ cls := "CrewPairer", name := "legCount", desc := "()I" } : Jvm.MethodName)) ∈ lw_all := lw_g (lw_at lw_m5 7 rfl) rfl
theorem q1075 : (Jvm.Cond.code ({ cls := "CrewPairer", name := "legCount", desc := "()I" } : Jvm.MethodName) prog_1_method_15_code (1 : Nat) (Option.some Jvm.ClassFile.FieldType.int)) ∈ lw_all := lw_g (lw_at lw_m5 8 rfl) rfl
theorem q1077 : (Jvm.Cond.instanceMethod ({ cls := "CrewPairer", name := "crewCount", desc := "()I" } : Jvm.MethodName)) ∈ lw_all := lw_g (lw_at lw_m5 10 rfl) rfl
theorem q1078 : (Jvm.Cond.selects "CrewPairer" ({ cls := "CrewPairer", name := "crewCount", desc := "()I" } : Jvm.MethodName) ({ cls := "CrewPairer", name := "crewCount", desc := "()I" } : Jvm.MethodName)) ∈ lw_all := lw_g (lw_at lw_m5 11 rfl) rfl
theorem q1079 : (Jvm.Cond.code ({ cls := "CrewPairer", name := "crewCount", desc := "()I" } : Jvm.MethodName) prog_1_method_16_code (1 : Nat) (Option.some Jvm.ClassFile.FieldType.int)) ∈ lw_all := lw_g (lw_at lw_m5 12 rfl) rfl
theorem q1081 : (Jvm.Cond.instanceMethod ({ cls := "CrewPairer", name := "leg", desc := "(II)I" } : Jvm.MethodName)) ∈ lw_all := lw_g (lw_at lw_m5 14 rfl) rfl
theorem q1082 : (Jvm.Cond.selects "CrewPairer" ({ cls := "CrewPairer", name := "leg", desc := "(II)I" } : Jvm.MethodName) ({ cls := "CrewPairer", name := "leg", desc := "(II)I" } : Jvm.MethodName)) ∈ lw_all := lw_g (lw_at lw_m5 15 rfl) rfl
theorem q1083 : (Jvm.Cond.code ({ cls := "CrewPairer", name := "leg", desc := "(II)I" } : Jvm.MethodName) prog_1_method_19_code (4 : Nat) (Option.some Jvm.ClassFile.FieldType.int)) ∈ lw_all := lw_g (lw_at lw_m5 16 rfl) rfl
theorem q1084 : (Jvm.Cond.methodLink "CrewPairer" (177 : Nat) ({ cls := "CrewPairer", name := "isLeg", desc := "(I)Z" } : Jvm.MethodName)) ∈ lw_all := lw_g (lw_at lw_m5 17 rfl) rfl
theorem q1085 : (Jvm.Cond.privateMethod ({ cls := "CrewPairer", name := "isLeg", desc := "(I)Z" } : Jvm.MethodName)) ∈ lw_tbl := lw_at lw_m5 18 rfl
theorem q1086 : (Jvm.Cond.instanceMethod ({ cls := "CrewPairer", name := "isLeg", desc := "(I)Z" } : Jvm.MethodName)) ∈ lw_all := lw_g (lw_at lw_m5 19 rfl) rfl
theorem q1087 : (Jvm.Cond.code ({ cls := "CrewPairer", name := "isLeg", desc := "(I)Z" } : Jvm.MethodName) prog_1_method_3_code (2 : Nat) (Option.some Jvm.ClassFile.FieldType.boolean)) ∈ lw_all := lw_g (lw_at lw_m5 20 rfl) rfl
theorem q1088 : (Jvm.Cond.methodLink "CrewPairer" (174 : Nat) ({ cls := "CrewPairer", name := "flownBy", desc := "(I)I" } : Jvm.MethodName)) ∈ lw_all := lw_g (lw_at lw_m5 21 rfl) rfl
theorem q1089 : (Jvm.Cond.privateMethod ({ cls := "CrewPairer", name := "flownBy", desc := "(I)I" } : Jvm.MethodName)) ∈ lw_tbl := lw_at lw_m5 22 rfl
theorem q1090 : (Jvm.Cond.instanceMethod ({ cls := "CrewPairer", name := "flownBy", desc := "(I)I" } : Jvm.MethodName)) ∈ lw_all := lw_g (lw_at lw_m5 23 rfl) rfl
theorem q1091 : (Jvm.Cond.code ({ cls := "CrewPairer", name := "flownBy", desc := "(I)I" } : Jvm.MethodName) prog_1_method_17_code (4 : Nat) (Option.some Jvm.ClassFile.FieldType.int)) ∈ lw_all := lw_g (lw_at lw_m5 24 rfl) rfl
theorem q1092 : (Jvm.Cond.methodLink "CrewPairer" (160 : Nat) ({ cls := "CrewPairer", name := "crewOf", desc := "(I)LCrewPairer$Crew;" } : Jvm.MethodName)) ∈ lw_all := lw_g (lw_at lw_m5 25 rfl) rfl
theorem q1093 : (Jvm.Cond.privateMethod ({ cls := "CrewPairer", name := "crewOf", desc := "(I)LCrewPairer$Crew;" } : Jvm.MethodName)) ∈ lw_tbl := lw_at lw_m5 26 rfl
theorem q1094 : (Jvm.Cond.instanceMethod ({ cls := "CrewPairer", name := "crewOf", desc := "(I)LCrewPairer$Crew;" } : Jvm.MethodName)) ∈ lw_all := lw_g (lw_at lw_m5 27 rfl) rfl
theorem q1095 : (Jvm.Cond.code ({ cls := "CrewPairer", name := "crewOf", desc := "(I)LCrewPairer$Crew;" } : Jvm.MethodName) prog_1_method_6_code (2 : Nat) (Option.some (Jvm.ClassFile.FieldType.object "CrewPairer$Crew"))) ∈ lw_all := lw_g (lw_at lw_m5 28 rfl) rfl
theorem q1096 : (Jvm.Cond.methodLink "CrewPairer" (164 : Nat) ({ cls := "CrewPairer$Crew", name := "find", desc := "(I)I" } : Jvm.MethodName)) ∈ lw_all := lw_g (lw_at lw_m5 29 rfl) rfl
theorem q1101 : (Jvm.Cond.instanceMethod ({ cls := "CrewPairer", name := "setRule", desc := "(II)I" } : Jvm.MethodName)) ∈ lw_all := lw_g (lw_at lw_m5 34 rfl) rfl
theorem q1102 : (Jvm.Cond.selects "CrewPairer" ({ cls := "CrewPairer", name := "setRule", desc := "(II)I" } : Jvm.MethodName) ({ cls := "CrewPairer", name := "setRule", desc := "(II)I" } : Jvm.MethodName)) ∈ lw_all := lw_g (lw_at lw_m5 35 rfl) rfl
theorem q1103 : (Jvm.Cond.code ({ cls := "CrewPairer", name := "setRule", desc := "(II)I" } : Jvm.MethodName) prog_1_method_22_code (4 : Nat) (Option.some Jvm.ClassFile.FieldType.int)) ∈ lw_all := lw_g (lw_at lw_m5 36 rfl) rfl
theorem q1104 : (Jvm.Cond.methodLink "CrewPairer" (184 : Nat) ({ cls := "CrewPairer", name := "least", desc := "(I)I" } : Jvm.MethodName)) ∈ lw_all := lw_g (lw_at lw_m5 37 rfl) rfl
theorem q1105 : (Jvm.Cond.static ({ cls := "CrewPairer", name := "least", desc := "(I)I" } : Jvm.MethodName)) ∈ lw_all := lw_g (lw_at lw_m5 38 rfl) rfl
theorem q1106 : (Jvm.Cond.code ({ cls := "CrewPairer", name := "least", desc := "(I)I" } : Jvm.MethodName) prog_1_method_20_code (1 : Nat) (Option.some Jvm.ClassFile.FieldType.int)) ∈ lw_all := lw_g (lw_at lw_m5 39 rfl) rfl
theorem q1107 : (Jvm.Cond.methodLink "CrewPairer" (187 : Nat) ({ cls := "CrewPairer", name := "most", desc := "(I)I" } : Jvm.MethodName)) ∈ lw_all := lw_g (lw_at lw_m5 40 rfl) rfl
theorem q1108 : (Jvm.Cond.static ({ cls := "CrewPairer", name := "most", desc := "(I)I" } : Jvm.MethodName)) ∈ lw_all := lw_g (lw_at lw_m5 41 rfl) rfl
theorem q1109 : (Jvm.Cond.code ({ cls := "CrewPairer", name := "most", desc := "(I)I" } : Jvm.MethodName) prog_1_method_21_code (1 : Nat) (Option.some Jvm.ClassFile.FieldType.int)) ∈ lw_all := lw_g (lw_at lw_m5 42 rfl) rfl
theorem q1111 : (Jvm.Cond.instanceMethod ({ cls := "CrewPairer", name := "rule", desc := "(I)I" } : Jvm.MethodName)) ∈ lw_all := lw_g (lw_at lw_m5 44 rfl) rfl
theorem q1112 : (Jvm.Cond.selects "CrewPairer" ({ cls := "CrewPairer", name := "rule", desc := "(I)I" } : Jvm.MethodName) ({ cls := "CrewPairer", name := "rule", desc := "(I)I" } : Jvm.MethodName)) ∈ lw_all := lw_g (lw_at lw_m5 45 rfl) rfl
theorem q1113 : (Jvm.Cond.code ({ cls := "CrewPairer", name := "rule", desc := "(I)I" } : Jvm.MethodName) prog_1_method_23_code (2 : Nat) (Option.some Jvm.ClassFile.FieldType.int)) ∈ lw_all := lw_g (lw_at lw_m5 46 rfl) rfl
theorem q1115 : (Jvm.Cond.instanceMethod ({ cls := "CrewPairer", name := "fly", desc := "(II)I" } : Jvm.MethodName)) ∈ lw_all := lw_g (lw_at lw_m5 48 rfl) rfl
theorem q1116 : (Jvm.Cond.selects "CrewPairer" ({ cls := "CrewPairer", name := "fly", desc := "(II)I" } : Jvm.MethodName) ({ cls := "CrewPairer", name := "fly", desc := "(II)I" } : Jvm.MethodName)) ∈ lw_all := lw_g (lw_at lw_m5 49 rfl) rfl
theorem q1117 : (Jvm.Cond.code ({ cls := "CrewPairer", name := "fly", desc := "(II)I" } : Jvm.MethodName) prog_1_method_42_code (3 : Nat) (Option.some Jvm.ClassFile.FieldType.int)) ∈ lw_all := lw_g (lw_at lw_m5 50 rfl) rfl
theorem q1118 : (Jvm.Cond.methodLink "CrewPairer" (280 : Nat) ({ cls := "CrewPairer", name := "take", desc := "(IIZ)I" } : Jvm.MethodName)) ∈ lw_all := lw_g (lw_at lw_m5 51 rfl) rfl
theorem q1119 : (Jvm.Cond.privateMethod ({ cls := "CrewPairer", name := "take", desc := "(IIZ)I" } : Jvm.MethodName)) ∈ lw_tbl := lw_at lw_m5 52 rfl
theorem q1120 : (Jvm.Cond.instanceMethod ({ cls := "CrewPairer", name := "take", desc := "(IIZ)I" } : Jvm.MethodName)) ∈ lw_all := lw_g (lw_at lw_m5 53 rfl) rfl
theorem q1121 : (Jvm.Cond.code ({ cls := "CrewPairer", name := "take", desc := "(IIZ)I" } : Jvm.MethodName) prog_1_method_41_code (5 : Nat) (Option.some Jvm.ClassFile.FieldType.int)) ∈ lw_all := lw_g (lw_at lw_m5 54 rfl) rfl
theorem q1122 : (Jvm.Cond.methodLink "CrewPairer" (270 : Nat) ({ cls := "CrewPairer", name := "isCrew", desc := "(I)Z" } : Jvm.MethodName)) ∈ lw_all := lw_g (lw_at lw_m5 55 rfl) rfl
theorem q1123 : (Jvm.Cond.privateMethod ({ cls := "CrewPairer", name := "isCrew", desc := "(I)Z" } : Jvm.MethodName)) ∈ lw_tbl := lw_at lw_m5 56 rfl
theorem q1124 : (Jvm.Cond.instanceMethod ({ cls := "CrewPairer", name := "isCrew", desc := "(I)Z" } : Jvm.MethodName)) ∈ lw_all := lw_g (lw_at lw_m5 57 rfl) rfl
theorem q1125 : (Jvm.Cond.code ({ cls := "CrewPairer", name := "isCrew", desc := "(I)Z" } : Jvm.MethodName) prog_1_method_4_code (2 : Nat) (Option.some Jvm.ClassFile.FieldType.boolean)) ∈ lw_all := lw_g (lw_at lw_m5 58 rfl) rfl
theorem q1126 : (Jvm.Cond.methodLink "CrewPairer" (273 : Nat) ({ cls := "CrewPairer", name := "reasonOf", desc := "(IIZ)I" } : Jvm.MethodName)) ∈ lw_all := lw_g (lw_at lw_m5 59 rfl) rfl
theorem q1127 : (Jvm.Cond.privateMethod ({ cls := "CrewPairer", name := "reasonOf", desc := "(IIZ)I" } : Jvm.MethodName)) ∈ lw_tbl := lw_at lw_m5 60 rfl
theorem q1128 : (Jvm.Cond.instanceMethod ({ cls := "CrewPairer", name := "reasonOf", desc := "(IIZ)I" } : Jvm.MethodName)) ∈ lw_all := lw_g (lw_at lw_m5 61 rfl) rfl
theorem q1129 : (Jvm.Cond.code ({ cls := "CrewPairer", name := "reasonOf", desc := "(IIZ)I" } : Jvm.MethodName) prog_1_method_39_code (4 : Nat) (Option.some Jvm.ClassFile.FieldType.int)) ∈ lw_all := lw_g (lw_at lw_m5 62 rfl) rfl
theorem q1130 : (Jvm.Cond.methodLink "CrewPairer" (256 : Nat) ({ cls := "CrewPairer", name := "loadRow", desc := "(I)V" } : Jvm.MethodName)) ∈ lw_all := lw_g (lw_at lw_m5 63 rfl) rfl
theorem q1131 : (Jvm.Cond.privateMethod ({ cls := "CrewPairer", name := "loadRow", desc := "(I)V" } : Jvm.MethodName)) ∈ lw_tbl := lw_at lw_m5 64 rfl
theorem q1132 : (Jvm.Cond.instanceMethod ({ cls := "CrewPairer", name := "loadRow", desc := "(I)V" } : Jvm.MethodName)) ∈ lw_all := lw_g (lw_at lw_m5 65 rfl) rfl
theorem q1133 : (Jvm.Cond.code ({ cls := "CrewPairer", name := "loadRow", desc := "(I)V" } : Jvm.MethodName) prog_1_method_24_code (3 : Nat) (Option.none : Option Jvm.ClassFile.FieldType)) ∈ lw_all := lw_g (lw_at lw_m5 66 rfl) rfl
theorem q1134 : (Jvm.Cond.methodLink "CrewPairer" (259 : Nat) ({ cls := "CrewPairer", name := "reasonHere", desc := "(IZ)I" } : Jvm.MethodName)) ∈ lw_all := lw_g (lw_at lw_m5 67 rfl) rfl
theorem q1135 : (Jvm.Cond.privateMethod ({ cls := "CrewPairer", name := "reasonHere", desc := "(IZ)I" } : Jvm.MethodName)) ∈ lw_tbl := lw_at lw_m5 68 rfl
theorem q1136 : (Jvm.Cond.instanceMethod ({ cls := "CrewPairer", name := "reasonHere", desc := "(IZ)I" } : Jvm.MethodName)) ∈ lw_all := lw_g (lw_at lw_m5 69 rfl) rfl
theorem q1137 : (Jvm.Cond.code ({ cls := "CrewPairer", name := "reasonHere", desc := "(IZ)I" } : Jvm.MethodName) prog_1_method_40_code (4 : Nat) (Option.some Jvm.ClassFile.FieldType.int)) ∈ lw_all := lw_g (lw_at lw_m5 70 rfl) rfl
theorem q1138 : (Jvm.Cond.methodLink "CrewPairer" (263 : Nat) ({ cls := "CrewPairer", name := "insert", desc := "(IZ)I" } : Jvm.MethodName)) ∈ lw_all := lw_g (lw_at lw_m5 71 rfl) rfl
theorem q1139 : (Jvm.Cond.privateMethod ({ cls := "CrewPairer", name := "insert", desc := "(IZ)I" } : Jvm.MethodName)) ∈ lw_tbl := lw_at lw_m5 72 rfl
theorem q1140 : (Jvm.Cond.instanceMethod ({ cls := "CrewPairer", name := "insert", desc := "(IZ)I" } : Jvm.MethodName)) ∈ lw_all := lw_g (lw_at lw_m5 73 rfl) rfl
theorem q1141 : (Jvm.Cond.code ({ cls := "CrewPairer", name := "insert", desc := "(IZ)I" } : Jvm.MethodName) prog_1_method_28_code (4 : Nat) (Option.some Jvm.ClassFile.FieldType.int)) ∈ lw_all := lw_g (lw_at lw_m5 74 rfl) rfl
theorem q1142 : (Jvm.Cond.methodLink "CrewPairer" (207 : Nat) ({ cls := "CrewPairer", name := "isBefore", desc := "(II)Z" } : Jvm.MethodName)) ∈ lw_all := lw_g (lw_at lw_m5 75 rfl) rfl
theorem q1143 : (Jvm.Cond.privateMethod ({ cls := "CrewPairer", name := "isBefore", desc := "(II)Z" } : Jvm.MethodName)) ∈ lw_tbl := lw_at lw_m5 76 rfl
theorem q1144 : (Jvm.Cond.instanceMethod ({ cls := "CrewPairer", name := "isBefore", desc := "(II)Z" } : Jvm.MethodName)) ∈ lw_all := lw_g (lw_at lw_m5 77 rfl) rfl
theorem q1145 : (Jvm.Cond.code ({ cls := "CrewPairer", name := "isBefore", desc := "(II)Z" } : Jvm.MethodName) prog_1_method_27_code (4 : Nat) (Option.some Jvm.ClassFile.FieldType.boolean)) ∈ lw_all := lw_g (lw_at lw_m5 78 rfl) rfl
theorem q1146 : (Jvm.Cond.methodLink "CrewPairer" (266 : Nat) ({ cls := "CrewPairer", name := "isLegal", desc := "()Z" } : Jvm.MethodName)) ∈ lw_all := lw_g (lw_at lw_m5 79 rfl) rfl
theorem q1147 : (Jvm.Cond.privateMethod ({ cls := "CrewPairer", name := "isLegal", desc := "()Z" } : Jvm.MethodName)) ∈ lw_tbl := lw_at lw_m5 80 rfl
theorem q1148 : (Jvm.Cond.instanceMethod ({ cls := "CrewPairer", name := "isLegal", desc := "()Z" } : Jvm.MethodName)) ∈ lw_all := lw_g (lw_at lw_m5 81 rfl) rfl
theorem q1149 : (Jvm.Cond.code ({ cls := "CrewPairer", name := "isLegal", desc := "()Z" } : Jvm.MethodName) prog_1_method_38_code (1 : Nat) (Option.some Jvm.ClassFile.FieldType.boolean)) ∈ lw_all := lw_g (lw_at lw_m5 82 rfl) rfl
theorem q1150 : (Jvm.Cond.methodLink "CrewPairer" (253 : Nat) ({ cls := "CrewPairer", name := "goTo", desc := "(I)I" } : Jvm.MethodName)) ∈ lw_all := lw_g (lw_at lw_m5 83 rfl) rfl
theorem q1151 : (Jvm.Cond.privateMethod ({ cls := "CrewPairer", name := "goTo", desc := "(I)I" } : Jvm.MethodName)) ∈ lw_tbl := lw_at lw_m5 84 rfl
theorem q1152 : (Jvm.Cond.instanceMethod ({ cls := "CrewPairer", name := "goTo", desc := "(I)I" } : Jvm.MethodName)) ∈ lw_all := lw_g (lw_at lw_m5 85 rfl) rfl
theorem q1153 : (Jvm.Cond.code ({ cls := "CrewPairer", name := "goTo", desc := "(I)I" } : Jvm.MethodName) prog_1_method_37_code (5 : Nat) (Option.some Jvm.ClassFile.FieldType.int)) ∈ lw_all := lw_g (lw_at lw_m5 86 rfl) rfl
theorem q1154 : (Jvm.Cond.methodLink "CrewPairer" (241 : Nat) ({ cls := "CrewPairer", name := "findDuties", desc := "()V" } : Jvm.MethodName)) ∈ lw_all := lw_g (lw_at lw_m5 87 rfl) rfl
theorem q1155 : (Jvm.Cond.privateMethod ({ cls := "CrewPairer", name := "findDuties", desc := "()V" } : Jvm.MethodName)) ∈ lw_tbl := lw_at lw_m5 88 rfl
theorem q1156 : (Jvm.Cond.instanceMethod ({ cls := "CrewPairer", name := "findDuties", desc := "()V" } : Jvm.MethodName)) ∈ lw_all := lw_g (lw_at lw_m5 89 rfl) rfl
theorem q1157 : (Jvm.Cond.code ({ cls := "CrewPairer", name := "findDuties", desc := "()V" } : Jvm.MethodName) prog_1_method_30_code (2 : Nat) (Option.none : Option Jvm.ClassFile.FieldType)) ∈ lw_all := lw_g (lw_at lw_m5 90 rfl) rfl
theorem q1158 : (Jvm.Cond.methodLink "CrewPairer" (217 : Nat) ({ cls := "CrewPairer", name := "gapBefore", desc := "(I)I" } : Jvm.MethodName)) ∈ lw_all := lw_g (lw_at lw_m5 91 rfl) rfl
theorem q1159 : (Jvm.Cond.privateMethod ({ cls := "CrewPairer", name := "gapBefore", desc := "(I)I" } : Jvm.MethodName)) ∈ lw_tbl := lw_at lw_m5 92 rfl
theorem q1160 : (Jvm.Cond.instanceMethod ({ cls := "CrewPairer", name := "gapBefore", desc := "(I)I" } : Jvm.MethodName)) ∈ lw_all := lw_g (lw_at lw_m5 93 rfl) rfl
theorem q1161 : (Jvm.Cond.code ({ cls := "CrewPairer", name := "gapBefore", desc := "(I)I" } : Jvm.MethodName) prog_1_method_29_code (2 : Nat) (Option.some Jvm.ClassFile.FieldType.int)) ∈ lw_all := lw_g (lw_at lw_m5 94 rfl) rfl
theorem q1162 : (Jvm.Cond.methodLink "CrewPairer" (211 : Nat) ({ cls := "CrewPairer", name := "at", desc := "(I)LCrewPairer$Leg;" } : Jvm.MethodName)) ∈ lw_all := lw_g (lw_at lw_m5 95 rfl) rfl
theorem q1163 : (Jvm.Cond.privateMethod ({ cls := "CrewPairer", name := "at", desc := "(I)LCrewPairer$Leg;" } : Jvm.MethodName)) ∈ lw_tbl := lw_at lw_m5 96 rfl
theorem q1164 : (Jvm.Cond.instanceMethod ({ cls := "CrewPairer", name := "at", desc := "(I)LCrewPairer$Leg;" } : Jvm.MethodName)) ∈ lw_all := lw_g (lw_at lw_m5 97 rfl) rfl
theorem q1165 : (Jvm.Cond.code ({ cls := "CrewPairer", name := "at", desc := "(I)LCrewPairer$Leg;" } : Jvm.MethodName) prog_1_method_26_code (2 : Nat) (Option.some (Jvm.ClassFile.FieldType.object "CrewPairer$Leg"))) ∈ lw_all := lw_g (lw_at lw_m5 98 rfl) rfl
theorem q1166 : (Jvm.Cond.methodLink "CrewPairer" (244 : Nat) ({ cls := "CrewPairer", name := "violates", desc := "(II)Z" } : Jvm.MethodName)) ∈ lw_all := lw_g (lw_at lw_m5 99 rfl) rfl
theorem q1167 : (Jvm.Cond.privateMethod ({ cls := "CrewPairer", name := "violates", desc := "(II)Z" } : Jvm.MethodName)) ∈ lw_tbl := lw_at lw_m5 100 rfl
theorem q1168 : (Jvm.Cond.instanceMethod ({ cls := "CrewPairer", name := "violates", desc := "(II)Z" } : Jvm.MethodName)) ∈ lw_all := lw_g (lw_at lw_m5 101 rfl) rfl
theorem q1169 : (Jvm.Cond.code ({ cls := "CrewPairer", name := "violates", desc := "(II)Z" } : Jvm.MethodName) prog_1_method_36_code (4 : Nat) (Option.some Jvm.ClassFile.FieldType.boolean)) ∈ lw_all := lw_g (lw_at lw_m5 102 rfl) rfl
theorem q1170 : (Jvm.Cond.methodLink "CrewPairer" (229 : Nat) ({ cls := "CrewPairer", name := "dutyFrom", desc := "(I)I" } : Jvm.MethodName)) ∈ lw_all := lw_g (lw_at lw_m5 103 rfl) rfl
theorem q1171 : (Jvm.Cond.privateMethod ({ cls := "CrewPairer", name := "dutyFrom", desc := "(I)I" } : Jvm.MethodName)) ∈ lw_tbl := lw_at lw_m5 104 rfl
theorem q1172 : (Jvm.Cond.instanceMethod ({ cls := "CrewPairer", name := "dutyFrom", desc := "(I)I" } : Jvm.MethodName)) ∈ lw_all := lw_g (lw_at lw_m5 105 rfl) rfl
theorem q1173 : (Jvm.Cond.code ({ cls := "CrewPairer", name := "dutyFrom", desc := "(I)I" } : Jvm.MethodName) prog_1_method_35_code (3 : Nat) (Option.some Jvm.ClassFile.FieldType.int)) ∈ lw_all := lw_g (lw_at lw_m5 106 rfl) rfl
theorem q1174 : (Jvm.Cond.methodLink "CrewPairer" (232 : Nat) ({ cls := "CrewPairer", name := "dutyLength", desc := "(I)I" } : Jvm.MethodName)) ∈ lw_all := lw_g (lw_at lw_m5 107 rfl) rfl
theorem q1175 : (Jvm.Cond.privateMethod ({ cls := "CrewPairer", name := "dutyLength", desc := "(I)I" } : Jvm.MethodName)) ∈ lw_tbl := lw_at lw_m5 108 rfl
theorem q1176 : (Jvm.Cond.instanceMethod ({ cls := "CrewPairer", name := "dutyLength", desc := "(I)I" } : Jvm.MethodName)) ∈ lw_all := lw_g (lw_at lw_m5 109 rfl) rfl
theorem q1177 : (Jvm.Cond.code ({ cls := "CrewPairer", name := "dutyLength", desc := "(I)I" } : Jvm.MethodName) prog_1_method_32_code (2 : Nat) (Option.some Jvm.ClassFile.FieldType.int)) ∈ lw_all := lw_g (lw_at lw_m5 110 rfl) rfl
theorem q1178 : (Jvm.Cond.methodLink "CrewPairer" (220 : Nat) ({ cls := "CrewPairer", name := "dutyEnd", desc := "(I)I" } : Jvm.MethodName)) ∈ lw_all := lw_g (lw_at lw_m5 111 rfl) rfl
theorem q1179 : (Jvm.Cond.privateMethod ({ cls := "CrewPairer", name := "dutyEnd", desc := "(I)I" } : Jvm.MethodName)) ∈ lw_tbl := lw_at lw_m5 112 rfl
theorem q1180 : (Jvm.Cond.instanceMethod ({ cls := "CrewPairer", name := "dutyEnd", desc := "(I)I" } : Jvm.MethodName)) ∈ lw_all := lw_g (lw_at lw_m5 113 rfl) rfl
theorem q1181 : (Jvm.Cond.code ({ cls := "CrewPairer", name := "dutyEnd", desc := "(I)I" } : Jvm.MethodName) prog_1_method_31_code (2 : Nat) (Option.some Jvm.ClassFile.FieldType.int)) ∈ lw_all := lw_g (lw_at lw_m5 114 rfl) rfl
theorem q1182 : (Jvm.Cond.methodLink "CrewPairer" (235 : Nat) ({ cls := "CrewPairer", name := "dutyMinutes", desc := "(I)I" } : Jvm.MethodName)) ∈ lw_all := lw_g (lw_at lw_m5 115 rfl) rfl
theorem q1183 : (Jvm.Cond.privateMethod ({ cls := "CrewPairer", name := "dutyMinutes", desc := "(I)I" } : Jvm.MethodName)) ∈ lw_tbl := lw_at lw_m5 116 rfl
theorem q1184 : (Jvm.Cond.instanceMethod ({ cls := "CrewPairer", name := "dutyMinutes", desc := "(I)I" } : Jvm.MethodName)) ∈ lw_all := lw_g (lw_at lw_m5 117 rfl) rfl
theorem q1185 : (Jvm.Cond.code ({ cls := "CrewPairer", name := "dutyMinutes", desc := "(I)I" } : Jvm.MethodName) prog_1_method_33_code (4 : Nat) (Option.some Jvm.ClassFile.FieldType.int)) ∈ lw_all := lw_g (lw_at lw_m5 118 rfl) rfl
theorem q1210 : (Jvm.Cond.methodLink "CrewPairer" (238 : Nat) ({ cls := "CrewPairer", name := "rowWithin", desc := "(II)I" } : Jvm.MethodName)) ∈ lw_all := lw_g (lw_at lw_m5 143 rfl) rfl
theorem q1211 : (Jvm.Cond.privateMethod ({ cls := "CrewPairer", name := "rowWithin", desc := "(II)I" } : Jvm.MethodName)) ∈ lw_tbl := lw_at lw_m5 144 rfl
theorem q1212 : (Jvm.Cond.instanceMethod ({ cls := "CrewPairer", name := "rowWithin", desc := "(II)I" } : Jvm.MethodName)) ∈ lw_all := lw_g (lw_at lw_m5 145 rfl) rfl
theorem q1213 : (Jvm.Cond.code ({ cls := "CrewPairer", name := "rowWithin", desc := "(II)I" } : Jvm.MethodName) prog_1_method_34_code (5 : Nat) (Option.some Jvm.ClassFile.FieldType.int)) ∈ lw_all := lw_g (lw_at lw_m5 146 rfl) rfl
theorem q1221 : (Jvm.Cond.methodLink "CrewPairer" (277 : Nat) ({ cls := "CrewPairer", name := "storeRow", desc := "(I)V" } : Jvm.MethodName)) ∈ lw_all := lw_g (lw_at lw_m5 154 rfl) rfl
theorem q1222 : (Jvm.Cond.privateMethod ({ cls := "CrewPairer", name := "storeRow", desc := "(I)V" } : Jvm.MethodName)) ∈ lw_tbl := lw_at lw_m5 155 rfl
theorem q1223 : (Jvm.Cond.instanceMethod ({ cls := "CrewPairer", name := "storeRow", desc := "(I)V" } : Jvm.MethodName)) ∈ lw_all := lw_g (lw_at lw_m5 156 rfl) rfl
theorem q1224 : (Jvm.Cond.code ({ cls := "CrewPairer", name := "storeRow", desc := "(I)V" } : Jvm.MethodName) prog_1_method_25_code (3 : Nat) (Option.none : Option Jvm.ClassFile.FieldType)) ∈ lw_all := lw_g (lw_at lw_m5 157 rfl) rfl
theorem q1226 : (Jvm.Cond.instanceMethod ({ cls := "CrewPairer", name := "ride", desc := "(II)I" } : Jvm.MethodName)) ∈ lw_all := lw_g (lw_at lw_m5 159 rfl) rfl
theorem q1227 : (Jvm.Cond.selects "CrewPairer" ({ cls := "CrewPairer", name := "ride", desc := "(II)I" } : Jvm.MethodName) ({ cls := "CrewPairer", name := "ride", desc := "(II)I" } : Jvm.MethodName)) ∈ lw_all := lw_g (lw_at lw_m5 160 rfl) rfl
theorem q1228 : (Jvm.Cond.code ({ cls := "CrewPairer", name := "ride", desc := "(II)I" } : Jvm.MethodName) prog_1_method_43_code (3 : Nat) (Option.some Jvm.ClassFile.FieldType.int)) ∈ lw_all := lw_g (lw_at lw_m5 161 rfl) rfl
theorem q1230 : (Jvm.Cond.instanceMethod ({ cls := "CrewPairer", name := "drop", desc := "(II)I" } : Jvm.MethodName)) ∈ lw_all := lw_g (lw_at lw_m5 163 rfl) rfl
theorem q1231 : (Jvm.Cond.selects "CrewPairer" ({ cls := "CrewPairer", name := "drop", desc := "(II)I" } : Jvm.MethodName) ({ cls := "CrewPairer", name := "drop", desc := "(II)I" } : Jvm.MethodName)) ∈ lw_all := lw_g (lw_at lw_m5 164 rfl) rfl
theorem q1232 : (Jvm.Cond.code ({ cls := "CrewPairer", name := "drop", desc := "(II)I" } : Jvm.MethodName) prog_1_method_44_code (4 : Nat) (Option.some Jvm.ClassFile.FieldType.int)) ∈ lw_all := lw_g (lw_at lw_m5 165 rfl) rfl
theorem q1233 : (Jvm.Cond.methodLink "CrewPairer" (283 : Nat) ({ cls := "CrewPairer$Crew", name := "removeAt", desc := "(I)V" } : Jvm.MethodName)) ∈ lw_all := lw_g (lw_at lw_m5 166 rfl) rfl
theorem q1238 : (Jvm.Cond.instanceMethod ({ cls := "CrewPairer", name := "reason", desc := "(IIZ)I" } : Jvm.MethodName)) ∈ lw_all := lw_g (lw_at lw_m5 171 rfl) rfl
theorem q1239 : (Jvm.Cond.selects "CrewPairer" ({ cls := "CrewPairer", name := "reason", desc := "(IIZ)I" } : Jvm.MethodName) ({ cls := "CrewPairer", name := "reason", desc := "(IIZ)I" } : Jvm.MethodName)) ∈ lw_all := lw_g (lw_at lw_m5 172 rfl) rfl
theorem q1240 : (Jvm.Cond.code ({ cls := "CrewPairer", name := "reason", desc := "(IIZ)I" } : Jvm.MethodName) prog_1_method_45_code (4 : Nat) (Option.some Jvm.ClassFile.FieldType.int)) ∈ lw_all := lw_g (lw_at lw_m5 173 rfl) rfl
theorem q1242 : (Jvm.Cond.instanceMethod ({ cls := "CrewPairer", name := "place", desc := "(IIZ)I" } : Jvm.MethodName)) ∈ lw_all := lw_g (lw_at lw_m5 175 rfl) rfl
theorem q1243 : (Jvm.Cond.selects "CrewPairer" ({ cls := "CrewPairer", name := "place", desc := "(IIZ)I" } : Jvm.MethodName) ({ cls := "CrewPairer", name := "place", desc := "(IIZ)I" } : Jvm.MethodName)) ∈ lw_all := lw_g (lw_at lw_m5 176 rfl) rfl
theorem q1244 : (Jvm.Cond.code ({ cls := "CrewPairer", name := "place", desc := "(IIZ)I" } : Jvm.MethodName) prog_1_method_46_code (4 : Nat) (Option.some Jvm.ClassFile.FieldType.int)) ∈ lw_all := lw_g (lw_at lw_m5 177 rfl) rfl
theorem q1246 : (Jvm.Cond.instanceMethod ({ cls := "CrewPairer", name := "itemCount", desc := "(I)I" } : Jvm.MethodName)) ∈ lw_all := lw_g (lw_at lw_m5 179 rfl) rfl
theorem q1247 : (Jvm.Cond.selects "CrewPairer" ({ cls := "CrewPairer", name := "itemCount", desc := "(I)I" } : Jvm.MethodName) ({ cls := "CrewPairer", name := "itemCount", desc := "(I)I" } : Jvm.MethodName)) ∈ lw_all := lw_g (lw_at lw_m5 180 rfl) rfl
theorem q1248 : (Jvm.Cond.code ({ cls := "CrewPairer", name := "itemCount", desc := "(I)I" } : Jvm.MethodName) prog_1_method_47_code (2 : Nat) (Option.some Jvm.ClassFile.FieldType.int)) ∈ lw_all := lw_g (lw_at lw_m5 181 rfl) rfl
theorem q1250 : (Jvm.Cond.instanceMethod ({ cls := "CrewPairer", name := "item", desc := "(III)I" } : Jvm.MethodName)) ∈ lw_all := lw_g (lw_at lw_m5 183 rfl) rfl
theorem q1251 : (Jvm.Cond.selects "CrewPairer" ({ cls := "CrewPairer", name := "item", desc := "(III)I" } : Jvm.MethodName) ({ cls := "CrewPairer", name := "item", desc := "(III)I" } : Jvm.MethodName)) ∈ lw_all := lw_g (lw_at lw_m5 184 rfl) rfl
theorem q1252 : (Jvm.Cond.code ({ cls := "CrewPairer", name := "item", desc := "(III)I" } : Jvm.MethodName) prog_1_method_48_code (5 : Nat) (Option.some Jvm.ClassFile.FieldType.int)) ∈ lw_all := lw_g (lw_at lw_m5 185 rfl) rfl
theorem q1254 : (Jvm.Cond.instanceMethod ({ cls := "CrewPairer", name := "dutyCount", desc := "(I)I" } : Jvm.MethodName)) ∈ lw_all := lw_g (lw_at lw_m5 187 rfl) rfl
theorem q1255 : (Jvm.Cond.selects "CrewPairer" ({ cls := "CrewPairer", name := "dutyCount", desc := "(I)I" } : Jvm.MethodName) ({ cls := "CrewPairer", name := "dutyCount", desc := "(I)I" } : Jvm.MethodName)) ∈ lw_all := lw_g (lw_at lw_m5 188 rfl) rfl
theorem q1256 : (Jvm.Cond.code ({ cls := "CrewPairer", name := "dutyCount", desc := "(I)I" } : Jvm.MethodName) prog_1_method_49_code (2 : Nat) (Option.some Jvm.ClassFile.FieldType.int)) ∈ lw_all := lw_g (lw_at lw_m5 189 rfl) rfl
theorem q1258 : (Jvm.Cond.instanceMethod ({ cls := "CrewPairer", name := "duty", desc := "(III)I" } : Jvm.MethodName)) ∈ lw_all := lw_g (lw_at lw_m5 191 rfl) rfl
theorem q1259 : (Jvm.Cond.selects "CrewPairer" ({ cls := "CrewPairer", name := "duty", desc := "(III)I" } : Jvm.MethodName) ({ cls := "CrewPairer", name := "duty", desc := "(III)I" } : Jvm.MethodName)) ∈ lw_all := lw_g (lw_at lw_m5 192 rfl) rfl
theorem q1260 : (Jvm.Cond.code ({ cls := "CrewPairer", name := "duty", desc := "(III)I" } : Jvm.MethodName) prog_1_method_50_code (4 : Nat) (Option.some Jvm.ClassFile.FieldType.int)) ∈ lw_all := lw_g (lw_at lw_m5 193 rfl) rfl
theorem q1262 : (Jvm.Cond.instanceMethod ({ cls := "CrewPairer", name := "violationCount", desc := "(I)I" } : Jvm.MethodName)) ∈ lw_all := lw_g (lw_at lw_m5 195 rfl) rfl
theorem q1263 : (Jvm.Cond.selects "CrewPairer" ({ cls := "CrewPairer", name := "violationCount", desc := "(I)I" } : Jvm.MethodName) ({ cls := "CrewPairer", name := "violationCount", desc := "(I)I" } : Jvm.MethodName)) ∈ lw_all := lw_g (lw_at lw_m5 196 rfl) rfl
theorem q1264 : (Jvm.Cond.code ({ cls := "CrewPairer", name := "violationCount", desc := "(I)I" } : Jvm.MethodName) prog_1_method_52_code (2 : Nat) (Option.some Jvm.ClassFile.FieldType.int)) ∈ lw_all := lw_g (lw_at lw_m5 197 rfl) rfl
theorem q1265 : (Jvm.Cond.methodLink "CrewPairer" (286 : Nat) ({ cls := "CrewPairer", name := "violationsOf", desc := "(I)I" } : Jvm.MethodName)) ∈ lw_all := lw_g (lw_at lw_m5 198 rfl) rfl
theorem q1266 : (Jvm.Cond.privateMethod ({ cls := "CrewPairer", name := "violationsOf", desc := "(I)I" } : Jvm.MethodName)) ∈ lw_tbl := lw_at lw_m5 199 rfl
theorem q1267 : (Jvm.Cond.instanceMethod ({ cls := "CrewPairer", name := "violationsOf", desc := "(I)I" } : Jvm.MethodName)) ∈ lw_all := lw_g (lw_at lw_m5 200 rfl) rfl
theorem q1268 : (Jvm.Cond.code ({ cls := "CrewPairer", name := "violationsOf", desc := "(I)I" } : Jvm.MethodName) prog_1_method_51_code (2 : Nat) (Option.some Jvm.ClassFile.FieldType.int)) ∈ lw_all := lw_g (lw_at lw_m5 201 rfl) rfl
theorem q1270 : (Jvm.Cond.instanceMethod ({ cls := "CrewPairer", name := "violation", desc := "(III)I" } : Jvm.MethodName)) ∈ lw_all := lw_g (lw_at lw_m5 203 rfl) rfl
theorem q1271 : (Jvm.Cond.selects "CrewPairer" ({ cls := "CrewPairer", name := "violation", desc := "(III)I" } : Jvm.MethodName) ({ cls := "CrewPairer", name := "violation", desc := "(III)I" } : Jvm.MethodName)) ∈ lw_all := lw_g (lw_at lw_m5 204 rfl) rfl
theorem q1272 : (Jvm.Cond.code ({ cls := "CrewPairer", name := "violation", desc := "(III)I" } : Jvm.MethodName) prog_1_method_53_code (4 : Nat) (Option.some Jvm.ClassFile.FieldType.int)) ∈ lw_all := lw_g (lw_at lw_m5 205 rfl) rfl
theorem q1274 : (Jvm.Cond.instanceMethod ({ cls := "CrewPairer", name := "minutes", desc := "(I)I" } : Jvm.MethodName)) ∈ lw_all := lw_g (lw_at lw_m5 207 rfl) rfl
theorem q1275 : (Jvm.Cond.selects "CrewPairer" ({ cls := "CrewPairer", name := "minutes", desc := "(I)I" } : Jvm.MethodName) ({ cls := "CrewPairer", name := "minutes", desc := "(I)I" } : Jvm.MethodName)) ∈ lw_all := lw_g (lw_at lw_m5 208 rfl) rfl
theorem q1276 : (Jvm.Cond.code ({ cls := "CrewPairer", name := "minutes", desc := "(I)I" } : Jvm.MethodName) prog_1_method_55_code (2 : Nat) (Option.some Jvm.ClassFile.FieldType.int)) ∈ lw_all := lw_g (lw_at lw_m5 209 rfl) rfl
theorem q1277 : (Jvm.Cond.methodLink "CrewPairer" (289 : Nat) ({ cls := "CrewPairer", name := "minutesOf", desc := "(I)I" } : Jvm.MethodName)) ∈ lw_all := lw_g (lw_at lw_m5 210 rfl) rfl
theorem q1278 : (Jvm.Cond.privateMethod ({ cls := "CrewPairer", name := "minutesOf", desc := "(I)I" } : Jvm.MethodName)) ∈ lw_tbl := lw_at lw_m5 211 rfl
theorem q1279 : (Jvm.Cond.instanceMethod ({ cls := "CrewPairer", name := "minutesOf", desc := "(I)I" } : Jvm.MethodName)) ∈ lw_all := lw_g (lw_at lw_m5 212 rfl) rfl
theorem q1280 : (Jvm.Cond.code ({ cls := "CrewPairer", name := "minutesOf", desc := "(I)I" } : Jvm.MethodName) prog_1_method_54_code (4 : Nat) (Option.some Jvm.ClassFile.FieldType.int)) ∈ lw_all := lw_g (lw_at lw_m5 213 rfl) rfl
theorem q1282 : (Jvm.Cond.instanceMethod ({ cls := "CrewPairer", name := "within", desc := "(III)I" } : Jvm.MethodName)) ∈ lw_all := lw_g (lw_at lw_m5 215 rfl) rfl
theorem q1283 : (Jvm.Cond.selects "CrewPairer" ({ cls := "CrewPairer", name := "within", desc := "(III)I" } : Jvm.MethodName) ({ cls := "CrewPairer", name := "within", desc := "(III)I" } : Jvm.MethodName)) ∈ lw_all := lw_g (lw_at lw_m5 216 rfl) rfl
theorem q1284 : (Jvm.Cond.code ({ cls := "CrewPairer", name := "within", desc := "(III)I" } : Jvm.MethodName) prog_1_method_56_code (4 : Nat) (Option.some Jvm.ClassFile.FieldType.int)) ∈ lw_all := lw_g (lw_at lw_m5 217 rfl) rfl
theorem q1286 : (Jvm.Cond.instanceMethod ({ cls := "CrewPairer", name := "home", desc := "(I)I" } : Jvm.MethodName)) ∈ lw_all := lw_g (lw_at lw_m5 219 rfl) rfl
theorem q1287 : (Jvm.Cond.selects "CrewPairer" ({ cls := "CrewPairer", name := "home", desc := "(I)I" } : Jvm.MethodName) ({ cls := "CrewPairer", name := "home", desc := "(I)I" } : Jvm.MethodName)) ∈ lw_all := lw_g (lw_at lw_m5 220 rfl) rfl
theorem q1288 : (Jvm.Cond.code ({ cls := "CrewPairer", name := "home", desc := "(I)I" } : Jvm.MethodName) prog_1_method_58_code (2 : Nat) (Option.some Jvm.ClassFile.FieldType.int)) ∈ lw_all := lw_g (lw_at lw_m5 221 rfl) rfl
theorem q1289 : (Jvm.Cond.methodLink "CrewPairer" (292 : Nat) ({ cls := "CrewPairer", name := "isRowHome", desc := "()Z" } : Jvm.MethodName)) ∈ lw_all := lw_g (lw_at lw_m5 222 rfl) rfl
theorem q1290 : (Jvm.Cond.privateMethod ({ cls := "CrewPairer", name := "isRowHome", desc := "()Z" } : Jvm.MethodName)) ∈ lw_tbl := lw_at lw_m5 223 rfl
theorem q1291 : (Jvm.Cond.instanceMethod ({ cls := "CrewPairer", name := "isRowHome", desc := "()Z" } : Jvm.MethodName)) ∈ lw_all := lw_g (lw_at lw_m5 224 rfl) rfl
theorem q1292 : (Jvm.Cond.code ({ cls := "CrewPairer", name := "isRowHome", desc := "()Z" } : Jvm.MethodName) prog_1_method_57_code (1 : Nat) (Option.some Jvm.ClassFile.FieldType.boolean)) ∈ lw_all := lw_g (lw_at lw_m5 225 rfl) rfl
theorem q1294 : (Jvm.Cond.instanceMethod ({ cls := "CrewPairer", name := "pairings", desc := "(I)I" } : Jvm.MethodName)) ∈ lw_all := lw_g (lw_at lw_m5 227 rfl) rfl
theorem q1295 : (Jvm.Cond.selects "CrewPairer" ({ cls := "CrewPairer", name := "pairings", desc := "(I)I" } : Jvm.MethodName) ({ cls := "CrewPairer", name := "pairings", desc := "(I)I" } : Jvm.MethodName)) ∈ lw_all := lw_g (lw_at lw_m5 228 rfl) rfl
theorem q1296 : (Jvm.Cond.code ({ cls := "CrewPairer", name := "pairings", desc := "(I)I" } : Jvm.MethodName) prog_1_method_59_code (4 : Nat) (Option.some Jvm.ClassFile.FieldType.int)) ∈ lw_all := lw_g (lw_at lw_m5 229 rfl) rfl
theorem q1298 : (Jvm.Cond.instanceMethod ({ cls := "CrewPairer", name := "cost", desc := "(II)I" } : Jvm.MethodName)) ∈ lw_all := lw_g (lw_at lw_m5 231 rfl) rfl
theorem q1299 : (Jvm.Cond.selects "CrewPairer" ({ cls := "CrewPairer", name := "cost", desc := "(II)I" } : Jvm.MethodName) ({ cls := "CrewPairer", name := "cost", desc := "(II)I" } : Jvm.MethodName)) ∈ lw_all := lw_g (lw_at lw_m5 232 rfl) rfl
theorem q1300 : (Jvm.Cond.code ({ cls := "CrewPairer", name := "cost", desc := "(II)I" } : Jvm.MethodName) prog_1_method_61_code (5 : Nat) (Option.some Jvm.ClassFile.FieldType.int)) ∈ lw_all := lw_g (lw_at lw_m5 233 rfl) rfl
theorem q1301 : (Jvm.Cond.methodLink "CrewPairer" (295 : Nat) ({ cls := "CrewPairer", name := "costOf", desc := "(II)I" } : Jvm.MethodName)) ∈ lw_all := lw_g (lw_at lw_m5 234 rfl) rfl
theorem q1302 : (Jvm.Cond.privateMethod ({ cls := "CrewPairer", name := "costOf", desc := "(II)I" } : Jvm.MethodName)) ∈ lw_tbl := lw_at lw_m5 235 rfl
theorem q1303 : (Jvm.Cond.instanceMethod ({ cls := "CrewPairer", name := "costOf", desc := "(II)I" } : Jvm.MethodName)) ∈ lw_all := lw_g (lw_at lw_m5 236 rfl) rfl
theorem q1304 : (Jvm.Cond.code ({ cls := "CrewPairer", name := "costOf", desc := "(II)I" } : Jvm.MethodName) prog_1_method_60_code (6 : Nat) (Option.some Jvm.ClassFile.FieldType.int)) ∈ lw_all := lw_g (lw_at lw_m5 237 rfl) rfl
theorem q1306 : (Jvm.Cond.instanceMethod ({ cls := "CrewPairer", name := "openCount", desc := "()I" } : Jvm.MethodName)) ∈ lw_all := lw_g (lw_at lw_m5 239 rfl) rfl
theorem q1307 : (Jvm.Cond.selects "CrewPairer" ({ cls := "CrewPairer", name := "openCount", desc := "()I" } : Jvm.MethodName) ({ cls := "CrewPairer", name := "openCount", desc := "()I" } : Jvm.MethodName)) ∈ lw_all := lw_g (lw_at lw_m6 0 rfl) rfl
theorem q1308 : (Jvm.Cond.code ({ cls := "CrewPairer", name := "openCount", desc := "()I" } : Jvm.MethodName) prog_1_method_63_code (1 : Nat) (Option.some Jvm.ClassFile.FieldType.int)) ∈ lw_all := lw_g (lw_at lw_m6 1 rfl) rfl
theorem q1309 : (Jvm.Cond.methodLink "CrewPairer" (301 : Nat) ({ cls := "CrewPairer", name := "findOpen", desc := "()I" } : Jvm.MethodName)) ∈ lw_all := lw_g (lw_at lw_m6 2 rfl) rfl
theorem q1310 : (Jvm.Cond.privateMethod ({ cls := "CrewPairer", name := "findOpen", desc := "()I" } : Jvm.MethodName)) ∈ lw_tbl := lw_at lw_m6 3 rfl
theorem q1311 : (Jvm.Cond.instanceMethod ({ cls := "CrewPairer", name := "findOpen", desc := "()I" } : Jvm.MethodName)) ∈ lw_all := lw_g (lw_at lw_m6 4 rfl) rfl
theorem q1312 : (Jvm.Cond.code ({ cls := "CrewPairer", name := "findOpen", desc := "()I" } : Jvm.MethodName) prog_1_method_62_code (4 : Nat) (Option.some Jvm.ClassFile.FieldType.int)) ∈ lw_all := lw_g (lw_at lw_m6 5 rfl) rfl
theorem q1313 : (Jvm.Cond.methodLink "CrewPairer" (298 : Nat) ({ cls := "CrewPairer", name := "isOpen", desc := "(I)Z" } : Jvm.MethodName)) ∈ lw_all := lw_g (lw_at lw_m6 6 rfl) rfl
theorem q1314 : (Jvm.Cond.privateMethod ({ cls := "CrewPairer", name := "isOpen", desc := "(I)Z" } : Jvm.MethodName)) ∈ lw_tbl := lw_at lw_m6 7 rfl
theorem q1315 : (Jvm.Cond.instanceMethod ({ cls := "CrewPairer", name := "isOpen", desc := "(I)Z" } : Jvm.MethodName)) ∈ lw_all := lw_g (lw_at lw_m6 8 rfl) rfl
theorem q1316 : (Jvm.Cond.code ({ cls := "CrewPairer", name := "isOpen", desc := "(I)Z" } : Jvm.MethodName) prog_1_method_18_code (2 : Nat) (Option.some Jvm.ClassFile.FieldType.boolean)) ∈ lw_all := lw_g (lw_at lw_m6 9 rfl) rfl
theorem q1318 : (Jvm.Cond.instanceMethod ({ cls := "CrewPairer", name := "open", desc := "(I)I" } : Jvm.MethodName)) ∈ lw_all := lw_g (lw_at lw_m6 11 rfl) rfl
theorem q1319 : (Jvm.Cond.selects "CrewPairer" ({ cls := "CrewPairer", name := "open", desc := "(I)I" } : Jvm.MethodName) ({ cls := "CrewPairer", name := "open", desc := "(I)I" } : Jvm.MethodName)) ∈ lw_all := lw_g (lw_at lw_m6 12 rfl) rfl
theorem q1320 : (Jvm.Cond.code ({ cls := "CrewPairer", name := "open", desc := "(I)I" } : Jvm.MethodName) prog_1_method_64_code (2 : Nat) (Option.some Jvm.ClassFile.FieldType.int)) ∈ lw_all := lw_g (lw_at lw_m6 13 rfl) rfl
theorem q1322 : (Jvm.Cond.instanceMethod ({ cls := "CrewPairer", name := "delay", desc := "(II)I" } : Jvm.MethodName)) ∈ lw_all := lw_g (lw_at lw_m6 15 rfl) rfl
theorem q1323 : (Jvm.Cond.selects "CrewPairer" ({ cls := "CrewPairer", name := "delay", desc := "(II)I" } : Jvm.MethodName) ({ cls := "CrewPairer", name := "delay", desc := "(II)I" } : Jvm.MethodName)) ∈ lw_all := lw_g (lw_at lw_m6 16 rfl) rfl
theorem q1324 : (Jvm.Cond.code ({ cls := "CrewPairer", name := "delay", desc := "(II)I" } : Jvm.MethodName) prog_1_method_66_code (6 : Nat) (Option.some Jvm.ClassFile.FieldType.int)) ∈ lw_all := lw_g (lw_at lw_m6 17 rfl) rfl
theorem q1325 : (Jvm.Cond.methodLink "CrewPairer" (304 : Nat) ({ cls := "CrewPairer", name := "reorder", desc := "(I)V" } : Jvm.MethodName)) ∈ lw_all := lw_g (lw_at lw_m6 18 rfl) rfl
theorem q1326 : (Jvm.Cond.privateMethod ({ cls := "CrewPairer", name := "reorder", desc := "(I)V" } : Jvm.MethodName)) ∈ lw_tbl := lw_at lw_m6 19 rfl
theorem q1327 : (Jvm.Cond.instanceMethod ({ cls := "CrewPairer", name := "reorder", desc := "(I)V" } : Jvm.MethodName)) ∈ lw_all := lw_g (lw_at lw_m6 20 rfl) rfl
theorem q1328 : (Jvm.Cond.code ({ cls := "CrewPairer", name := "reorder", desc := "(I)V" } : Jvm.MethodName) prog_1_method_65_code (4 : Nat) (Option.none : Option Jvm.ClassFile.FieldType)) ∈ lw_all := lw_g (lw_at lw_m6 21 rfl) rfl
theorem q1330 : (Jvm.Cond.instanceMethod ({ cls := "CrewPairer", name := "cancel", desc := "(I)I" } : Jvm.MethodName)) ∈ lw_all := lw_g (lw_at lw_m6 23 rfl) rfl
theorem q1331 : (Jvm.Cond.selects "CrewPairer" ({ cls := "CrewPairer", name := "cancel", desc := "(I)I" } : Jvm.MethodName) ({ cls := "CrewPairer", name := "cancel", desc := "(I)I" } : Jvm.MethodName)) ∈ lw_all := lw_g (lw_at lw_m6 24 rfl) rfl
theorem q1332 : (Jvm.Cond.code ({ cls := "CrewPairer", name := "cancel", desc := "(I)I" } : Jvm.MethodName) prog_1_method_67_code (5 : Nat) (Option.some Jvm.ClassFile.FieldType.int)) ∈ lw_all := lw_g (lw_at lw_m6 25 rfl) rfl
theorem q1334 : (Jvm.Cond.instanceMethod ({ cls := "CrewPairer", name := "setReserve", desc := "(III)I" } : Jvm.MethodName)) ∈ lw_all := lw_g (lw_at lw_m6 27 rfl) rfl
theorem q1335 : (Jvm.Cond.selects "CrewPairer" ({ cls := "CrewPairer", name := "setReserve", desc := "(III)I" } : Jvm.MethodName) ({ cls := "CrewPairer", name := "setReserve", desc := "(III)I" } : Jvm.MethodName)) ∈ lw_all := lw_g (lw_at lw_m6 28 rfl) rfl
theorem q1336 : (Jvm.Cond.code ({ cls := "CrewPairer", name := "setReserve", desc := "(III)I" } : Jvm.MethodName) prog_1_method_68_code (6 : Nat) (Option.some Jvm.ClassFile.FieldType.int)) ∈ lw_all := lw_g (lw_at lw_m6 29 rfl) rfl
theorem q1337 : (Jvm.Cond.methodLink "CrewPairer" (307 : Nat) ({ cls := "CrewPairer$Crew", name := "isReserve", desc := "()Z" } : Jvm.MethodName)) ∈ lw_all := lw_g (lw_at lw_m6 30 rfl) rfl
theorem q1342 : (Jvm.Cond.instanceMethod ({ cls := "CrewPairer", name := "reserve", desc := "(II)I" } : Jvm.MethodName)) ∈ lw_all := lw_g (lw_at lw_m6 35 rfl) rfl
theorem q1343 : (Jvm.Cond.selects "CrewPairer" ({ cls := "CrewPairer", name := "reserve", desc := "(II)I" } : Jvm.MethodName) ({ cls := "CrewPairer", name := "reserve", desc := "(II)I" } : Jvm.MethodName)) ∈ lw_all := lw_g (lw_at lw_m6 36 rfl) rfl
theorem q1344 : (Jvm.Cond.code ({ cls := "CrewPairer", name := "reserve", desc := "(II)I" } : Jvm.MethodName) prog_1_method_69_code (4 : Nat) (Option.some Jvm.ClassFile.FieldType.int)) ∈ lw_all := lw_g (lw_at lw_m6 37 rfl) rfl
theorem q1346 : (Jvm.Cond.instanceMethod ({ cls := "CrewPairer", name := "called", desc := "(I)I" } : Jvm.MethodName)) ∈ lw_all := lw_g (lw_at lw_m6 39 rfl) rfl
theorem q1347 : (Jvm.Cond.selects "CrewPairer" ({ cls := "CrewPairer", name := "called", desc := "(I)I" } : Jvm.MethodName) ({ cls := "CrewPairer", name := "called", desc := "(I)I" } : Jvm.MethodName)) ∈ lw_all := lw_g (lw_at lw_m6 40 rfl) rfl
theorem q1348 : (Jvm.Cond.code ({ cls := "CrewPairer", name := "called", desc := "(I)I" } : Jvm.MethodName) prog_1_method_72_code (2 : Nat) (Option.some Jvm.ClassFile.FieldType.int)) ∈ lw_all := lw_g (lw_at lw_m6 41 rfl) rfl
theorem q1349 : (Jvm.Cond.methodLink "CrewPairer" (335 : Nat) ({ cls := "CrewPairer", name := "reserveFor", desc := "(I)I" } : Jvm.MethodName)) ∈ lw_all := lw_g (lw_at lw_m6 42 rfl) rfl
theorem q1350 : (Jvm.Cond.privateMethod ({ cls := "CrewPairer", name := "reserveFor", desc := "(I)I" } : Jvm.MethodName)) ∈ lw_tbl := lw_at lw_m6 43 rfl
theorem q1351 : (Jvm.Cond.instanceMethod ({ cls := "CrewPairer", name := "reserveFor", desc := "(I)I" } : Jvm.MethodName)) ∈ lw_all := lw_g (lw_at lw_m6 44 rfl) rfl
theorem q1352 : (Jvm.Cond.code ({ cls := "CrewPairer", name := "reserveFor", desc := "(I)I" } : Jvm.MethodName) prog_1_method_71_code (4 : Nat) (Option.some Jvm.ClassFile.FieldType.int)) ∈ lw_all := lw_g (lw_at lw_m6 45 rfl) rfl
theorem q1353 : (Jvm.Cond.classLink "CrewPairer" (316 : Nat) "CrewPairer$Cheapest") ∈ lw_all := lw_g (lw_at lw_m6 46 rfl) rfl
theorem q1355 : (Jvm.Cond.methodLinkNest "CrewPairer" (318 : Nat) ({ cls := "CrewPairer$Cheapest", name := "<init>", desc := "()V" } : Jvm.MethodName) "CrewPairer") ∈ lw_tbl := lw_at lw_m6 48 rfl
theorem q1360 : (Jvm.Cond.fieldLinkNest "CrewPairer" (329 : Nat) "CrewPairer$Cheapest" "best" "LCrewPairer$Priced;" "CrewPairer") ∈ lw_tbl := lw_at lw_m6 53 rfl
theorem q1364 : (Jvm.Cond.methodLink "CrewPairer" (319 : Nat) ({ cls := "CrewPairer", name := "canCall", desc := "(II)Z" } : Jvm.MethodName)) ∈ lw_all := lw_g (lw_at lw_m6 57 rfl) rfl
theorem q1365 : (Jvm.Cond.privateMethod ({ cls := "CrewPairer", name := "canCall", desc := "(II)Z" } : Jvm.MethodName)) ∈ lw_tbl := lw_at lw_m6 58 rfl
theorem q1366 : (Jvm.Cond.instanceMethod ({ cls := "CrewPairer", name := "canCall", desc := "(II)Z" } : Jvm.MethodName)) ∈ lw_all := lw_g (lw_at lw_m6 59 rfl) rfl
theorem q1367 : (Jvm.Cond.code ({ cls := "CrewPairer", name := "canCall", desc := "(II)Z" } : Jvm.MethodName) prog_1_method_70_code (4 : Nat) (Option.some Jvm.ClassFile.FieldType.boolean)) ∈ lw_all := lw_g (lw_at lw_m6 60 rfl) rfl
theorem q1368 : (Jvm.Cond.classLink "CrewPairer" (322 : Nat) "CrewPairer$Offer") ∈ lw_all := lw_g (lw_at lw_m6 61 rfl) rfl
theorem q1370 : (Jvm.Cond.methodLink "CrewPairer" (324 : Nat) ({ cls := "CrewPairer$Offer", name := "<init>", desc := "(IIII)V" } : Jvm.MethodName)) ∈ lw_all := lw_g (lw_at lw_m6 63 rfl) rfl
theorem q1375 : (Jvm.Cond.fieldLinkNest "CrewPairer" (332 : Nat) "CrewPairer$Offer" "crew" "I" "CrewPairer") ∈ lw_tbl := lw_at lw_m6 68 rfl
theorem q1377 : (Jvm.Cond.fieldLinkNest "CrewPairer" (354 : Nat) "CrewPairer$Offer" "other" "I" "CrewPairer") ∈ lw_tbl := lw_at lw_m6 70 rfl
theorem q1379 : (Jvm.Cond.fieldLinkNest "CrewPairer" (357 : Nat) "CrewPairer$Offer" "price" "I" "CrewPairer") ∈ lw_tbl := lw_at lw_m6 72 rfl
theorem q1390 : (Jvm.Cond.methodLink "CrewPairer" (325 : Nat) ({ cls := "CrewPairer$Cheapest", name := "see", desc := "(LCrewPairer$Priced;)V" } : Jvm.MethodName)) ∈ lw_all := lw_g (lw_at lw_m6 83 rfl) rfl
theorem q1417 : (Jvm.Cond.instanceMethod ({ cls := "CrewPairer", name := "offer", desc := "(II)I" } : Jvm.MethodName)) ∈ lw_all := lw_g (lw_at lw_m6 110 rfl) rfl
theorem q1418 : (Jvm.Cond.selects "CrewPairer" ({ cls := "CrewPairer", name := "offer", desc := "(II)I" } : Jvm.MethodName) ({ cls := "CrewPairer", name := "offer", desc := "(II)I" } : Jvm.MethodName)) ∈ lw_all := lw_g (lw_at lw_m6 111 rfl) rfl
theorem q1419 : (Jvm.Cond.code ({ cls := "CrewPairer", name := "offer", desc := "(II)I" } : Jvm.MethodName) prog_1_method_76_code (4 : Nat) (Option.some Jvm.ClassFile.FieldType.int)) ∈ lw_all := lw_g (lw_at lw_m6 112 rfl) rfl
theorem q1420 : (Jvm.Cond.methodLink "CrewPairer" (350 : Nat) ({ cls := "CrewPairer", name := "bestOffer", desc := "(I)LCrewPairer$Offer;" } : Jvm.MethodName)) ∈ lw_all := lw_g (lw_at lw_m6 113 rfl) rfl
theorem q1421 : (Jvm.Cond.privateMethod ({ cls := "CrewPairer", name := "bestOffer", desc := "(I)LCrewPairer$Offer;" } : Jvm.MethodName)) ∈ lw_tbl := lw_at lw_m6 114 rfl
theorem q1422 : (Jvm.Cond.instanceMethod ({ cls := "CrewPairer", name := "bestOffer", desc := "(I)LCrewPairer$Offer;" } : Jvm.MethodName)) ∈ lw_all := lw_g (lw_at lw_m6 115 rfl) rfl
theorem q1423 : (Jvm.Cond.code ({ cls := "CrewPairer", name := "bestOffer", desc := "(I)LCrewPairer$Offer;" } : Jvm.MethodName) prog_1_method_75_code (4 : Nat) (Option.some (Jvm.ClassFile.FieldType.object "CrewPairer$Offer"))) ∈ lw_all := lw_g (lw_at lw_m6 116 rfl) rfl
theorem q1424 : (Jvm.Cond.methodLink "CrewPairer" (342 : Nat) ({ cls := "CrewPairer", name := "offersOf", desc := "(II)Ljava/util/ArrayList;" } : Jvm.MethodName)) ∈ lw_all := lw_g (lw_at lw_m6 117 rfl) rfl
theorem q1425 : (Jvm.Cond.privateMethod ({ cls := "CrewPairer", name := "offersOf", desc := "(II)Ljava/util/ArrayList;" } : Jvm.MethodName)) ∈ lw_tbl := lw_at lw_m6 118 rfl
theorem q1426 : (Jvm.Cond.instanceMethod ({ cls := "CrewPairer", name := "offersOf", desc := "(II)Ljava/util/ArrayList;" } : Jvm.MethodName)) ∈ lw_all := lw_g (lw_at lw_m6 119 rfl) rfl
theorem q1427 : (Jvm.Cond.code ({ cls := "CrewPairer", name := "offersOf", desc := "(II)Ljava/util/ArrayList;" } : Jvm.MethodName) prog_1_method_74_code (6 : Nat) (Option.some (Jvm.ClassFile.FieldType.object "java/util/ArrayList"))) ∈ lw_all := lw_g (lw_at lw_m6 120 rfl) rfl
theorem q1428 : (Jvm.Cond.classLink "CrewPairer" (67 : Nat) "java/util/ArrayList") ∈ lw_all := lw_g (lw_at lw_m6 121 rfl) rfl
theorem q1429 : (Jvm.Cond.methodLink "CrewPairer" (338 : Nat) ({ cls := "java/util/ArrayList", name := "<init>", desc := "()V" } : Jvm.MethodName)) ∈ lw_all := lw_g (lw_at lw_m6 122 rfl) rfl
theorem q1430 : (Jvm.Cond.methodLink "CrewPairer" (339 : Nat) ({ cls := "CrewPairer", name := "canRideThenFly", desc := "(III)Z" } : Jvm.MethodName)) ∈ lw_all := lw_g (lw_at lw_m6 123 rfl) rfl
theorem q1431 : (Jvm.Cond.privateMethod ({ cls := "CrewPairer", name := "canRideThenFly", desc := "(III)Z" } : Jvm.MethodName)) ∈ lw_tbl := lw_at lw_m6 124 rfl
theorem q1432 : (Jvm.Cond.instanceMethod ({ cls := "CrewPairer", name := "canRideThenFly", desc := "(III)Z" } : Jvm.MethodName)) ∈ lw_all := lw_g (lw_at lw_m6 125 rfl) rfl
theorem q1433 : (Jvm.Cond.code ({ cls := "CrewPairer", name := "canRideThenFly", desc := "(III)Z" } : Jvm.MethodName) prog_1_method_73_code (4 : Nat) (Option.some Jvm.ClassFile.FieldType.boolean)) ∈ lw_all := lw_g (lw_at lw_m6 126 rfl) rfl
theorem q1434 : (Jvm.Cond.methodLink "CrewPairer" (346 : Nat) ({ cls := "CrewPairer$Cheapest", name := "seeAll", desc := "(Ljava/util/ArrayList;)V" } : Jvm.MethodName)) ∈ lw_all := lw_g (lw_at lw_m6 127 rfl) rfl
theorem q1443 : (Jvm.Cond.instanceMethod ({ cls := "CrewPairer", name := "pair", desc := "()I" } : Jvm.MethodName)) ∈ lw_all := lw_g (lw_at lw_m6 136 rfl) rfl
theorem q1444 : (Jvm.Cond.selects "CrewPairer" ({ cls := "CrewPairer", name := "pair", desc := "()I" } : Jvm.MethodName) ({ cls := "CrewPairer", name := "pair", desc := "()I" } : Jvm.MethodName)) ∈ lw_all := lw_g (lw_at lw_m6 137 rfl) rfl
theorem q1445 : (Jvm.Cond.code ({ cls := "CrewPairer", name := "pair", desc := "()I" } : Jvm.MethodName) prog_1_method_78_code (5 : Nat) (Option.some Jvm.ClassFile.FieldType.int)) ∈ lw_all := lw_g (lw_at lw_m6 138 rfl) rfl
theorem q1446 : (Jvm.Cond.methodLink "CrewPairer" (360 : Nat) ({ cls := "CrewPairer", name := "accept", desc := "(LCrewPairer$Offer;I)V" } : Jvm.MethodName)) ∈ lw_all := lw_g (lw_at lw_m6 139 rfl) rfl
theorem q1447 : (Jvm.Cond.privateMethod ({ cls := "CrewPairer", name := "accept", desc := "(LCrewPairer$Offer;I)V" } : Jvm.MethodName)) ∈ lw_tbl := lw_at lw_m6 140 rfl
theorem q1448 : (Jvm.Cond.instanceMethod ({ cls := "CrewPairer", name := "accept", desc := "(LCrewPairer$Offer;I)V" } : Jvm.MethodName)) ∈ lw_all := lw_g (lw_at lw_m6 141 rfl) rfl
theorem q1449 : (Jvm.Cond.code ({ cls := "CrewPairer", name := "accept", desc := "(LCrewPairer$Offer;I)V" } : Jvm.MethodName) prog_1_method_77_code (3 : Nat) (Option.none : Option Jvm.ClassFile.FieldType)) ∈ lw_all := lw_g (lw_at lw_m6 142 rfl) rfl
theorem q1451 : (Jvm.Cond.instanceMethod ({ cls := "CrewPairer", name := "repair", desc := "()I" } : Jvm.MethodName)) ∈ lw_all := lw_g (lw_at lw_m6 144 rfl) rfl
theorem q1452 : (Jvm.Cond.selects "CrewPairer" ({ cls := "CrewPairer", name := "repair", desc := "()I" } : Jvm.MethodName) ({ cls := "CrewPairer", name := "repair", desc := "()I" } : Jvm.MethodName)) ∈ lw_all := lw_g (lw_at lw_m6 145 rfl) rfl
theorem q1453 : (Jvm.Cond.code ({ cls := "CrewPairer", name := "repair", desc := "()I" } : Jvm.MethodName) prog_1_method_82_code (5 : Nat) (Option.some Jvm.ClassFile.FieldType.int)) ∈ lw_all := lw_g (lw_at lw_m6 146 rfl) rfl
theorem q1454 : (Jvm.Cond.methodLink "CrewPairer" (367 : Nat) ({ cls := "CrewPairer", name := "hasViolation", desc := "(I)Z" } : Jvm.MethodName)) ∈ lw_all := lw_g (lw_at lw_m6 147 rfl) rfl
theorem q1455 : (Jvm.Cond.privateMethod ({ cls := "CrewPairer", name := "hasViolation", desc := "(I)Z" } : Jvm.MethodName)) ∈ lw_tbl := lw_at lw_m6 148 rfl
theorem q1456 : (Jvm.Cond.instanceMethod ({ cls := "CrewPairer", name := "hasViolation", desc := "(I)Z" } : Jvm.MethodName)) ∈ lw_all := lw_g (lw_at lw_m6 149 rfl) rfl
theorem q1457 : (Jvm.Cond.code ({ cls := "CrewPairer", name := "hasViolation", desc := "(I)Z" } : Jvm.MethodName) prog_1_method_80_code (2 : Nat) (Option.some Jvm.ClassFile.FieldType.boolean)) ∈ lw_all := lw_g (lw_at lw_m6 150 rfl) rfl
theorem q1458 : (Jvm.Cond.methodLink "CrewPairer" (370 : Nat) ({ cls := "CrewPairer", name := "removeFirstViolation", desc := "(I)V" } : Jvm.MethodName)) ∈ lw_all := lw_g (lw_at lw_m6 151 rfl) rfl
theorem q1459 : (Jvm.Cond.privateMethod ({ cls := "CrewPairer", name := "removeFirstViolation", desc := "(I)V" } : Jvm.MethodName)) ∈ lw_tbl := lw_at lw_m6 152 rfl
theorem q1460 : (Jvm.Cond.instanceMethod ({ cls := "CrewPairer", name := "removeFirstViolation", desc := "(I)V" } : Jvm.MethodName)) ∈ lw_all := lw_g (lw_at lw_m6 153 rfl) rfl
theorem q1461 : (Jvm.Cond.code ({ cls := "CrewPairer", name := "removeFirstViolation", desc := "(I)V" } : Jvm.MethodName) prog_1_method_79_code (4 : Nat) (Option.none : Option Jvm.ClassFile.FieldType)) ∈ lw_all := lw_g (lw_at lw_m6 154 rfl) rfl
theorem q1462 : (Jvm.Cond.methodLink "CrewPairer" (373 : Nat) ({ cls := "CrewPairer", name := "removal", desc := "(I)I" } : Jvm.MethodName)) ∈ lw_all := lw_g (lw_at lw_m6 155 rfl) rfl
theorem q1463 : (Jvm.Cond.privateMethod ({ cls := "CrewPairer", name := "removal", desc := "(I)I" } : Jvm.MethodName)) ∈ lw_tbl := lw_at lw_m6 156 rfl
theorem q1464 : (Jvm.Cond.instanceMethod ({ cls := "CrewPairer", name := "removal", desc := "(I)I" } : Jvm.MethodName)) ∈ lw_all := lw_g (lw_at lw_m6 157 rfl) rfl
theorem q1465 : (Jvm.Cond.code ({ cls := "CrewPairer", name := "removal", desc := "(I)I" } : Jvm.MethodName) prog_1_method_81_code (3 : Nat) (Option.some Jvm.ClassFile.FieldType.int)) ∈ lw_all := lw_g (lw_at lw_m6 158 rfl) rfl
theorem q1467 : (Jvm.Cond.instanceMethod ({ cls := "CrewPairer", name := "repaired", desc := "(II)I" } : Jvm.MethodName)) ∈ lw_all := lw_g (lw_at lw_m6 160 rfl) rfl
theorem q1468 : (Jvm.Cond.selects "CrewPairer" ({ cls := "CrewPairer", name := "repaired", desc := "(II)I" } : Jvm.MethodName) ({ cls := "CrewPairer", name := "repaired", desc := "(II)I" } : Jvm.MethodName)) ∈ lw_all := lw_g (lw_at lw_m6 161 rfl) rfl
theorem q1469 : (Jvm.Cond.code ({ cls := "CrewPairer", name := "repaired", desc := "(II)I" } : Jvm.MethodName) prog_1_method_83_code (3 : Nat) (Option.some Jvm.ClassFile.FieldType.int)) ∈ lw_all := lw_g (lw_at lw_m6 162 rfl) rfl
theorem q1471 : (Jvm.Cond.instanceMethod ({ cls := "CrewPairer", name := "bestMinutes", desc := "(I)I" } : Jvm.MethodName)) ∈ lw_all := lw_g (lw_at lw_m6 164 rfl) rfl
theorem q1472 : (Jvm.Cond.selects "CrewPairer" ({ cls := "CrewPairer", name := "bestMinutes", desc := "(I)I" } : Jvm.MethodName) ({ cls := "CrewPairer", name := "bestMinutes", desc := "(I)I" } : Jvm.MethodName)) ∈ lw_all := lw_g (lw_at lw_m6 165 rfl) rfl
theorem q1473 : (Jvm.Cond.code ({ cls := "CrewPairer", name := "bestMinutes", desc := "(I)I" } : Jvm.MethodName) prog_1_method_86_code (2 : Nat) (Option.some Jvm.ClassFile.FieldType.int)) ∈ lw_all := lw_g (lw_at lw_m6 166 rfl) rfl
theorem q1474 : (Jvm.Cond.methodLink "CrewPairer" (385 : Nat) ({ cls := "CrewPairer", name := "findBest", desc := "(I)Z" } : Jvm.MethodName)) ∈ lw_all := lw_g (lw_at lw_m6 167 rfl) rfl
theorem q1475 : (Jvm.Cond.privateMethod ({ cls := "CrewPairer", name := "findBest", desc := "(I)Z" } : Jvm.MethodName)) ∈ lw_tbl := lw_at lw_m6 168 rfl
theorem q1476 : (Jvm.Cond.instanceMethod ({ cls := "CrewPairer", name := "findBest", desc := "(I)Z" } : Jvm.MethodName)) ∈ lw_all := lw_g (lw_at lw_m6 169 rfl) rfl
theorem q1477 : (Jvm.Cond.code ({ cls := "CrewPairer", name := "findBest", desc := "(I)Z" } : Jvm.MethodName) prog_1_method_85_code (2 : Nat) (Option.some Jvm.ClassFile.FieldType.boolean)) ∈ lw_all := lw_g (lw_at lw_m6 170 rfl) rfl
theorem q1478 : (Jvm.Cond.methodLink "CrewPairer" (382 : Nat) ({ cls := "CrewPairer", name := "search", desc := "(III)V" } : Jvm.MethodName)) ∈ lw_all := lw_g (lw_at lw_m6 171 rfl) rfl
theorem q1479 : (Jvm.Cond.privateMethod ({ cls := "CrewPairer", name := "search", desc := "(III)V" } : Jvm.MethodName)) ∈ lw_tbl := lw_at lw_m6 172 rfl
theorem q1480 : (Jvm.Cond.instanceMethod ({ cls := "CrewPairer", name := "search", desc := "(III)V" } : Jvm.MethodName)) ∈ lw_all := lw_g (lw_at lw_m6 173 rfl) rfl
theorem q1481 : (Jvm.Cond.code ({ cls := "CrewPairer", name := "search", desc := "(III)V" } : Jvm.MethodName) prog_1_method_84_code (7 : Nat) (Option.none : Option Jvm.ClassFile.FieldType)) ∈ lw_all := lw_g (lw_at lw_m6 174 rfl) rfl
theorem q1483 : (Jvm.Cond.instanceMethod ({ cls := "CrewPairer", name := "bestLeg", desc := "(II)I" } : Jvm.MethodName)) ∈ lw_all := lw_g (lw_at lw_m6 176 rfl) rfl
theorem q1484 : (Jvm.Cond.selects "CrewPairer" ({ cls := "CrewPairer", name := "bestLeg", desc := "(II)I" } : Jvm.MethodName) ({ cls := "CrewPairer", name := "bestLeg", desc := "(II)I" } : Jvm.MethodName)) ∈ lw_all := lw_g (lw_at lw_m6 177 rfl) rfl
theorem q1485 : (Jvm.Cond.code ({ cls := "CrewPairer", name := "bestLeg", desc := "(II)I" } : Jvm.MethodName) prog_1_method_87_code (3 : Nat) (Option.some Jvm.ClassFile.FieldType.int)) ∈ lw_all := lw_g (lw_at lw_m6 178 rfl) rfl
theorem q1487 : (Jvm.Cond.instanceMethod ({ cls := "CrewPairer", name := "takeBest", desc := "(I)I" } : Jvm.MethodName)) ∈ lw_all := lw_g (lw_at lw_m6 180 rfl) rfl
theorem q1488 : (Jvm.Cond.selects "CrewPairer" ({ cls := "CrewPairer", name := "takeBest", desc := "(I)I" } : Jvm.MethodName) ({ cls := "CrewPairer", name := "takeBest", desc := "(I)I" } : Jvm.MethodName)) ∈ lw_all := lw_g (lw_at lw_m6 181 rfl) rfl
theorem q1489 : (Jvm.Cond.code ({ cls := "CrewPairer", name := "takeBest", desc := "(I)I" } : Jvm.MethodName) prog_1_method_88_code (3 : Nat) (Option.some Jvm.ClassFile.FieldType.int)) ∈ lw_all := lw_g (lw_at lw_m6 182 rfl) rfl
theorem q1491 : (Jvm.Cond.instanceMethod ({ cls := "CrewPairer", name := "letter", desc := "(II)I" } : Jvm.MethodName)) ∈ lw_all := lw_g (lw_at lw_m6 184 rfl) rfl
theorem q1492 : (Jvm.Cond.selects "CrewPairer" ({ cls := "CrewPairer", name := "letter", desc := "(II)I" } : Jvm.MethodName) ({ cls := "CrewPairer", name := "letter", desc := "(II)I" } : Jvm.MethodName)) ∈ lw_all := lw_g (lw_at lw_m6 185 rfl) rfl
theorem q1493 : (Jvm.Cond.code ({ cls := "CrewPairer", name := "letter", desc := "(II)I" } : Jvm.MethodName) prog_1_method_90_code (5 : Nat) (Option.some Jvm.ClassFile.FieldType.int)) ∈ lw_all := lw_g (lw_at lw_m6 186 rfl) rfl
theorem q1494 : (Jvm.Cond.methodLink "CrewPairer" (394 : Nat) ({ cls := "CrewPairer", name := "textOf", desc := "(LCrewPairer$Timed;Z)Ljava/lang/CharSequence;" } : Jvm.MethodName)) ∈ lw_all := lw_g (lw_at lw_m6 187 rfl) rfl
theorem q1495 : (Jvm.Cond.static ({ cls := "CrewPairer", name := "textOf", desc := "(LCrewPairer$Timed;Z)Ljava/lang/CharSequence;" } : Jvm.MethodName)) ∈ lw_all := lw_g (lw_at lw_m6 188 rfl) rfl
theorem q1496 : (Jvm.Cond.code ({ cls := "CrewPairer", name := "textOf", desc := "(LCrewPairer$Timed;Z)Ljava/lang/CharSequence;" } : Jvm.MethodName) prog_1_method_89_code (2 : Nat) (Option.some (Jvm.ClassFile.FieldType.object "java/lang/CharSequence"))) ∈ lw_all := lw_g (lw_at lw_m6 189 rfl) rfl
theorem q1497 : (Jvm.Cond.interfaceEntry "CrewPairer" (388 : Nat)) ∈ lw_tbl := lw_at lw_m6 190 rfl
theorem q1498 : (Jvm.Cond.methodLink "CrewPairer" (388 : Nat) ({ cls := "CrewPairer$Timed", name := "text", desc := "(Z)Ljava/lang/CharSequence;" } : Jvm.MethodName)) ∈ lw_all := lw_g (lw_at lw_m6 191 rfl) rfl
theorem q1701 : (Jvm.Cond.methodLink "CrewPairer" (398 : Nat) ({ cls := "java/lang/StringBuilder", name := "append", desc := "(Ljava/lang/CharSequence;)Ljava/lang/StringBuilder;" } : Jvm.MethodName)) ∈ lw_all := lw_g (lw_at lw_m7 154 rfl) rfl
theorem q1823 : (Jvm.Cond.methodLink "CrewPairer" (402 : Nat) ({ cls := "java/lang/StringBuilder", name := "length", desc := "()I" } : Jvm.MethodName)) ∈ lw_all := lw_g (lw_at lw_m8 36 rfl) rfl
theorem q1824 : (Jvm.Cond.methodLink "CrewPairer" (403 : Nat) ({ cls := "java/lang/StringBuilder", name := "charAt", desc := "(I)C" } : Jvm.MethodName)) ∈ lw_all := lw_g (lw_at lw_m8 37 rfl) rfl
theorem q1826 : (Jvm.Cond.instanceMethod ({ cls := "CrewPairer", name := "feed", desc := "(I)I" } : Jvm.MethodName)) ∈ lw_all := lw_g (lw_at lw_m8 39 rfl) rfl
theorem q1827 : (Jvm.Cond.selects "CrewPairer" ({ cls := "CrewPairer", name := "feed", desc := "(I)I" } : Jvm.MethodName) ({ cls := "CrewPairer", name := "feed", desc := "(I)I" } : Jvm.MethodName)) ∈ lw_all := lw_g (lw_at lw_m8 40 rfl) rfl
theorem q1828 : (Jvm.Cond.code ({ cls := "CrewPairer", name := "feed", desc := "(I)I" } : Jvm.MethodName) prog_1_method_91_code (2 : Nat) (Option.some Jvm.ClassFile.FieldType.int)) ∈ lw_all := lw_g (lw_at lw_m8 41 rfl) rfl
theorem q1829 : (Jvm.Cond.methodLink "CrewPairer" (407 : Nat) ({ cls := "java/lang/StringBuilder", name := "append", desc := "(C)Ljava/lang/StringBuilder;" } : Jvm.MethodName)) ∈ lw_all := lw_g (lw_at lw_m8 42 rfl) rfl
theorem q1837 : (Jvm.Cond.instanceMethod ({ cls := "CrewPairer", name := "execute", desc := "()I" } : Jvm.MethodName)) ∈ lw_all := lw_g (lw_at lw_m8 50 rfl) rfl
theorem q1838 : (Jvm.Cond.selects "CrewPairer" ({ cls := "CrewPairer", name := "execute", desc := "()I" } : Jvm.MethodName) ({ cls := "CrewPairer", name := "execute", desc := "()I" } : Jvm.MethodName)) ∈ lw_all := lw_g (lw_at lw_m8 51 rfl) rfl
theorem q1839 : (Jvm.Cond.codeWith ({ cls := "CrewPairer", name := "execute", desc := "()I" } : Jvm.MethodName) prog_1_method_100_code (6 : Nat) (Option.some Jvm.ClassFile.FieldType.int) [((29 : Nat), (48 : Nat), (56 : Nat), (439 : Nat)), ((29 : Nat), (48 : Nat), (76 : Nat), (0 : Nat)), ((56 : Nat), (68 : Nat), (76 : Nat), (0 : Nat)), ((76 : Nat), (78 : Nat), (76 : Nat), (0 : Nat))]) ∈ lw_all := lw_g (lw_at lw_m8 52 rfl) rfl
theorem q1840 : (Jvm.Cond.classLink "CrewPairer" (439 : Nat) "CrewPairer$CommandException") ∈ lw_all := lw_g (lw_at lw_m8 53 rfl) rfl
theorem q1841 : (Jvm.Cond.methodLink "CrewPairer" (453 : Nat) ({ cls := "java/lang/StringBuilder", name := "toString", desc := "()Ljava/lang/String;" } : Jvm.MethodName)) ∈ lw_all := lw_g (lw_at lw_m8 54 rfl) rfl
theorem q1842 : (Jvm.Cond.methodLink "CrewPairer" (497 : Nat) ({ cls := "java/lang/StringBuilder", name := "setLength", desc := "(I)V" } : Jvm.MethodName)) ∈ lw_all := lw_g (lw_at lw_m8 55 rfl) rfl
theorem q1862 : (Jvm.Cond.methodLink "CrewPairer" (500 : Nat) ({ cls := "CrewPairer", name := "readCommands", desc := "(Ljava/lang/CharSequence;)I" } : Jvm.MethodName)) ∈ lw_all := lw_g (lw_at lw_m8 75 rfl) rfl
theorem q1863 : (Jvm.Cond.privateMethod ({ cls := "CrewPairer", name := "readCommands", desc := "(Ljava/lang/CharSequence;)I" } : Jvm.MethodName)) ∈ lw_tbl := lw_at lw_m8 76 rfl
theorem q1864 : (Jvm.Cond.instanceMethod ({ cls := "CrewPairer", name := "readCommands", desc := "(Ljava/lang/CharSequence;)I" } : Jvm.MethodName)) ∈ lw_all := lw_g (lw_at lw_m8 77 rfl) rfl
theorem q1865 : (Jvm.Cond.code ({ cls := "CrewPairer", name := "readCommands", desc := "(Ljava/lang/CharSequence;)I" } : Jvm.MethodName) prog_1_method_97_code (3 : Nat) (Option.some Jvm.ClassFile.FieldType.int)) ∈ lw_all := lw_g (lw_at lw_m8 78 rfl) rfl
theorem q1866 : (Jvm.Cond.methodLink "CrewPairer" (465 : Nat) ({ cls := "CrewPairer", name := "readCommand", desc := "(Ljava/lang/CharSequence;I)V" } : Jvm.MethodName)) ∈ lw_all := lw_g (lw_at lw_m8 79 rfl) rfl
theorem q1867 : (Jvm.Cond.privateMethod ({ cls := "CrewPairer", name := "readCommand", desc := "(Ljava/lang/CharSequence;I)V" } : Jvm.MethodName)) ∈ lw_tbl := lw_at lw_m8 80 rfl
theorem q1868 : (Jvm.Cond.instanceMethod ({ cls := "CrewPairer", name := "readCommand", desc := "(Ljava/lang/CharSequence;I)V" } : Jvm.MethodName)) ∈ lw_all := lw_g (lw_at lw_m8 81 rfl) rfl
theorem q1869 : (Jvm.Cond.code ({ cls := "CrewPairer", name := "readCommand", desc := "(Ljava/lang/CharSequence;I)V" } : Jvm.MethodName) prog_1_method_96_code (7 : Nat) (Option.none : Option Jvm.ClassFile.FieldType)) ∈ lw_all := lw_g (lw_at lw_m8 82 rfl) rfl
theorem q1870 : (Jvm.Cond.methodLink "CrewPairer" (445 : Nat) ({ cls := "CrewPairer", name := "letterAt", desc := "(Ljava/lang/CharSequence;I)I" } : Jvm.MethodName)) ∈ lw_all := lw_g (lw_at lw_m8 83 rfl) rfl
theorem q1871 : (Jvm.Cond.static ({ cls := "CrewPairer", name := "letterAt", desc := "(Ljava/lang/CharSequence;I)I" } : Jvm.MethodName)) ∈ lw_all := lw_g (lw_at lw_m8 84 rfl) rfl
theorem q1872 : (Jvm.Cond.code ({ cls := "CrewPairer", name := "letterAt", desc := "(Ljava/lang/CharSequence;I)I" } : Jvm.MethodName) prog_1_method_93_code (2 : Nat) (Option.some Jvm.ClassFile.FieldType.int)) ∈ lw_all := lw_g (lw_at lw_m8 85 rfl) rfl
theorem q1873 : (Jvm.Cond.interfaceEntry "CrewPairer" (435 : Nat)) ∈ lw_tbl := lw_at lw_m8 86 rfl
theorem q1874 : (Jvm.Cond.methodLink "CrewPairer" (435 : Nat) ({ cls := "java/lang/CharSequence", name := "length", desc := "()I" } : Jvm.MethodName)) ∈ lw_all := lw_g (lw_at lw_m8 87 rfl) rfl
theorem q1875 : (Jvm.Cond.interfaceEntry "CrewPairer" (438 : Nat)) ∈ lw_tbl := lw_at lw_m8 88 rfl
theorem q1876 : (Jvm.Cond.methodLink "CrewPairer" (438 : Nat) ({ cls := "java/lang/CharSequence", name := "charAt", desc := "(I)C" } : Jvm.MethodName)) ∈ lw_all := lw_g (lw_at lw_m8 89 rfl) rfl
theorem q1877 : (Jvm.Cond.methodLink "CrewPairer" (457 : Nat) ({ cls := "CrewPairer", name := "numbersOf", desc := "(Ljava/lang/String;)I" } : Jvm.MethodName)) ∈ lw_all := lw_g (lw_at lw_m8 90 rfl) rfl
theorem q1878 : (Jvm.Cond.static ({ cls := "CrewPairer", name := "numbersOf", desc := "(Ljava/lang/String;)I" } : Jvm.MethodName)) ∈ lw_all := lw_g (lw_at lw_m8 91 rfl) rfl
theorem q1879 : (Jvm.Cond.code ({ cls := "CrewPairer", name := "numbersOf", desc := "(Ljava/lang/String;)I" } : Jvm.MethodName) prog_1_method_92_code (3 : Nat) (Option.some Jvm.ClassFile.FieldType.int)) ∈ lw_all := lw_g (lw_at lw_m8 92 rfl) rfl
theorem q1880 : (Jvm.Cond.methodLink "CrewPairer" (410 : Nat) ({ cls := "java/lang/String", name := "hashCode", desc := "()I" } : Jvm.MethodName)) ∈ lw_all := lw_g (lw_at lw_m8 93 rfl) rfl
theorem q1881 : (Jvm.Cond.stringRef "CrewPairer" (413 : Nat) "leg") ∈ lw_tbl := lw_at lw_m8 94 rfl
theorem q1882 : (Jvm.Cond.methodLink "CrewPairer" (415 : Nat) ({ cls := "java/lang/String", name := "equals", desc := "(Ljava/lang/Object;)Z" } : Jvm.MethodName)) ∈ lw_all := lw_g (lw_at lw_m8 95 rfl) rfl
theorem q1883 : (Jvm.Cond.stringRef "CrewPairer" (418 : Nat) "fly") ∈ lw_tbl := lw_at lw_m8 96 rfl
theorem q1884 : (Jvm.Cond.stringRef "CrewPairer" (420 : Nat) "ride") ∈ lw_tbl := lw_at lw_m8 97 rfl
theorem q1885 : (Jvm.Cond.stringRef "CrewPairer" (422 : Nat) "drop") ∈ lw_tbl := lw_at lw_m8 98 rfl
theorem q1886 : (Jvm.Cond.stringRef "CrewPairer" (424 : Nat) "late") ∈ lw_tbl := lw_at lw_m8 99 rfl
theorem q1887 : (Jvm.Cond.stringRef "CrewPairer" (426 : Nat) "rule") ∈ lw_tbl := lw_at lw_m8 100 rfl
theorem q1888 : (Jvm.Cond.stringRef "CrewPairer" (428 : Nat) "crew") ∈ lw_tbl := lw_at lw_m8 101 rfl
theorem q1889 : (Jvm.Cond.stringRef "CrewPairer" (429 : Nat) "cancel") ∈ lw_tbl := lw_at lw_m8 102 rfl
theorem q1890 : (Jvm.Cond.stringRef "CrewPairer" (431 : Nat) "pair") ∈ lw_tbl := lw_at lw_m8 103 rfl
theorem q1891 : (Jvm.Cond.stringRef "CrewPairer" (433 : Nat) "repair") ∈ lw_tbl := lw_at lw_m8 104 rfl
theorem q1892 : (Jvm.Cond.methodLink "CrewPairer" (449 : Nat) ({ cls := "CrewPairer", name := "error", desc := "(I)LCrewPairer$CommandException;" } : Jvm.MethodName)) ∈ lw_all := lw_g (lw_at lw_m8 105 rfl) rfl
theorem q1893 : (Jvm.Cond.static ({ cls := "CrewPairer", name := "error", desc := "(I)LCrewPairer$CommandException;" } : Jvm.MethodName)) ∈ lw_all := lw_g (lw_at lw_m8 106 rfl) rfl
theorem q1894 : (Jvm.Cond.code ({ cls := "CrewPairer", name := "error", desc := "(I)LCrewPairer$CommandException;" } : Jvm.MethodName) prog_1_method_94_code (1 : Nat) (Option.some (Jvm.ClassFile.FieldType.object "CrewPairer$CommandException"))) ∈ lw_all := lw_g (lw_at lw_m8 107 rfl) rfl
theorem q1931 : (Jvm.Cond.methodLink "CrewPairer" (441 : Nat) ({ cls := "CrewPairer$CommandException", name := "<init>", desc := "(I)V" } : Jvm.MethodName)) ∈ lw_all := lw_g (lw_at lw_m8 144 rfl) rfl
theorem q1942 : (Jvm.Cond.fieldLinkNest "CrewPairer" (506 : Nat) "CrewPairer$CommandException" "code" "I" "CrewPairer") ∈ lw_tbl := lw_at lw_m8 155 rfl
theorem q1958 : (Jvm.Cond.methodLink "CrewPairer" (461 : Nat) ({ cls := "CrewPairer", name := "readNumber", desc := "(Ljava/lang/CharSequence;)I" } : Jvm.MethodName)) ∈ lw_all := lw_g (lw_at lw_m8 171 rfl) rfl
theorem q1959 : (Jvm.Cond.privateMethod ({ cls := "CrewPairer", name := "readNumber", desc := "(Ljava/lang/CharSequence;)I" } : Jvm.MethodName)) ∈ lw_tbl := lw_at lw_m8 172 rfl
theorem q1960 : (Jvm.Cond.instanceMethod ({ cls := "CrewPairer", name := "readNumber", desc := "(Ljava/lang/CharSequence;)I" } : Jvm.MethodName)) ∈ lw_all := lw_g (lw_at lw_m8 173 rfl) rfl
theorem q1961 : (Jvm.Cond.code ({ cls := "CrewPairer", name := "readNumber", desc := "(Ljava/lang/CharSequence;)I" } : Jvm.MethodName) prog_1_method_95_code (4 : Nat) (Option.some Jvm.ClassFile.FieldType.int)) ∈ lw_all := lw_g (lw_at lw_m8 174 rfl) rfl
theorem q1962 : (Jvm.Cond.methodLink "CrewPairer" (503 : Nat) ({ cls := "CrewPairer", name := "performAll", desc := "(I)V" } : Jvm.MethodName)) ∈ lw_all := lw_g (lw_at lw_m8 175 rfl) rfl
theorem q1963 : (Jvm.Cond.privateMethod ({ cls := "CrewPairer", name := "performAll", desc := "(I)V" } : Jvm.MethodName)) ∈ lw_tbl := lw_at lw_m8 176 rfl
theorem q1964 : (Jvm.Cond.instanceMethod ({ cls := "CrewPairer", name := "performAll", desc := "(I)V" } : Jvm.MethodName)) ∈ lw_all := lw_g (lw_at lw_m8 177 rfl) rfl
theorem q1965 : (Jvm.Cond.code ({ cls := "CrewPairer", name := "performAll", desc := "(I)V" } : Jvm.MethodName) prog_1_method_99_code (3 : Nat) (Option.none : Option Jvm.ClassFile.FieldType)) ∈ lw_all := lw_g (lw_at lw_m8 178 rfl) rfl
theorem q1966 : (Jvm.Cond.methodLink "CrewPairer" (494 : Nat) ({ cls := "CrewPairer", name := "perform", desc := "(I)I" } : Jvm.MethodName)) ∈ lw_all := lw_g (lw_at lw_m8 179 rfl) rfl
theorem q1967 : (Jvm.Cond.privateMethod ({ cls := "CrewPairer", name := "perform", desc := "(I)I" } : Jvm.MethodName)) ∈ lw_tbl := lw_at lw_m8 180 rfl
theorem q1968 : (Jvm.Cond.instanceMethod ({ cls := "CrewPairer", name := "perform", desc := "(I)I" } : Jvm.MethodName)) ∈ lw_all := lw_g (lw_at lw_m8 181 rfl) rfl
theorem q1969 : (Jvm.Cond.code ({ cls := "CrewPairer", name := "perform", desc := "(I)I" } : Jvm.MethodName) prog_1_method_98_code (6 : Nat) (Option.some Jvm.ClassFile.FieldType.int)) ∈ lw_all := lw_g (lw_at lw_m8 182 rfl) rfl
theorem q1970 : (Jvm.Cond.methodLink "CrewPairer" (469 : Nat) ({ cls := "CrewPairer", name := "addLeg", desc := "(IIII)I" } : Jvm.MethodName)) ∈ lw_all := lw_g (lw_at lw_m8 183 rfl) rfl
theorem q1971 : (Jvm.Cond.methodLink "CrewPairer" (473 : Nat) ({ cls := "CrewPairer", name := "addCrew", desc := "(I)I" } : Jvm.MethodName)) ∈ lw_all := lw_g (lw_at lw_m8 184 rfl) rfl
theorem q1972 : (Jvm.Cond.methodLink "CrewPairer" (476 : Nat) ({ cls := "CrewPairer", name := "fly", desc := "(II)I" } : Jvm.MethodName)) ∈ lw_all := lw_g (lw_at lw_m8 185 rfl) rfl
theorem q1973 : (Jvm.Cond.methodLink "CrewPairer" (478 : Nat) ({ cls := "CrewPairer", name := "ride", desc := "(II)I" } : Jvm.MethodName)) ∈ lw_all := lw_g (lw_at lw_m8 186 rfl) rfl
theorem q1974 : (Jvm.Cond.methodLink "CrewPairer" (480 : Nat) ({ cls := "CrewPairer", name := "drop", desc := "(II)I" } : Jvm.MethodName)) ∈ lw_all := lw_g (lw_at lw_m8 187 rfl) rfl
theorem q1975 : (Jvm.Cond.methodLink "CrewPairer" (482 : Nat) ({ cls := "CrewPairer", name := "delay", desc := "(II)I" } : Jvm.MethodName)) ∈ lw_all := lw_g (lw_at lw_m8 188 rfl) rfl
theorem q1976 : (Jvm.Cond.methodLink "CrewPairer" (485 : Nat) ({ cls := "CrewPairer", name := "cancel", desc := "(I)I" } : Jvm.MethodName)) ∈ lw_all := lw_g (lw_at lw_m8 189 rfl) rfl
theorem q1977 : (Jvm.Cond.methodLink "CrewPairer" (487 : Nat) ({ cls := "CrewPairer", name := "setRule", desc := "(II)I" } : Jvm.MethodName)) ∈ lw_all := lw_g (lw_at lw_m8 190 rfl) rfl
theorem q1978 : (Jvm.Cond.methodLink "CrewPairer" (490 : Nat) ({ cls := "CrewPairer", name := "pair", desc := "()I" } : Jvm.MethodName)) ∈ lw_all := lw_g (lw_at lw_m8 191 rfl) rfl
theorem q1979 : (Jvm.Cond.methodLink "CrewPairer" (492 : Nat) ({ cls := "CrewPairer", name := "repair", desc := "()I" } : Jvm.MethodName)) ∈ lw_all := lw_g (lw_at lw_m8 192 rfl) rfl
theorem q2533 : (Jvm.Cond.castable "CrewPairer" "java/lang/Object") ∈ lw_tbl := lw_at lw_m11 26 rfl
theorem in_X0 : ∀ w ∈ wsX00, w ∈ lw_all := lw_in wsX00 [262, 264, 266, 268, 270, 272, 274, 276, 278, 280, 282, 284, 286, 288, 290, 292, 294, 296, 298, 300, 302, 304, 306, 308, 310] (by decide +kernel) (by decide +kernel)
